/-! 34.list2: rows of object arrays; ArrayList.add where no growth is needed, ArrayList.remove(0) -/
/-- y is an object whose class may be cast to E1 -/
def OV (E1 : String) (s : State) (H : Heap) (y : Nat) : Prop := ∃ (cellV : Cell) (C : String), H[y]? = some cellV ∧ cellV.vm.isStatics = false ∧ s.vm.findClass C = some cellV.cls ∧ va_Nw (.castable C E1) s
theorem OV.kept {E1 : String} {s : State} {H H1 : Heap} {y : Nat} (h : OV E1 s H y) (hk : y < H.size → H1[y]? = H[y]?) : OV E1 s H1 y := by
  obtain ⟨cV, C, h1, h2⟩ := h
  exact ⟨cV, C, (hk (Array.getElem?_eq_some_iff.mp h1).1).trans h1, h2⟩
theorem OV.warm {E1 : String} {s U : State} {H : Heap} {y : Nat} (hW : s.WarmedH U.vm) (h : OV E1 s H y) : OV E1 U H y := by
  obtain ⟨cV, C, h1, h2, h3, h4⟩ := h
  exact ⟨cV, C, h1, h2, by rw [hW.alike.findClass]; exact h3, va_Nw.warmC hW h4⟩
theorem OV.calling {E1 : String} {U : State} {H : Heap} {y : Nat} {g : JFrame} {mk : MethodId} {a : Array Value} (h : OV E1 U H y) : OV E1 (U.calling g mk a) H y := by
  obtain ⟨cV, C, h1, h2, h3, h4⟩ := h
  exact ⟨cV, C, h1, h2, h3, va_Nw.same (U := U.calling g mk a) rfl rfl h4⟩
section OBA
variable {p : Program} {l : Launch} {e : Env} {R : Room} {s : State} {m : MethodId} {args : Array Value} {below : List Frame} {meth : Method} {c : Code} {H : Heap} {locs : List Loc} {cells slots : Nat} {Q : State → Prop}
variable {cc : ByteArray} {pc nL : Nat} {ls : Array Slot} {rest st0 : List Value} {A A0 : Nat → Prop} {H0 : Heap} {D : va_G} {cA : Nat → ClassId} {cl : List vw_C} {tys : List (ClassId × FieldType)} {a : Nat}
theorem h_aast (hexec : p.tables.exec = Jvm.exec) (hb : c.code = cc) (hK : va_K D cl tys s) {cX : ClassId} {n v : Nat} {f : Nat → Option Nat} {E1 : String} (hP : va_at D cl (a, .inl (cX, n, .inr (.inr (.inr (.inr f))))) H) (hAa : A a) (hS : va_S A H0 H locs) (t0 : Nat) (ht : tys[t0]? = some (cX, .object E1)) (hv : OV E1 s H v) {i : Int32} (hin : vp_in i n) (hdg : decode cc pc = .ok (.aastore, 1))
    (kk : ∀ (H1 : Heap) (locs1 : List Loc), va_at D cl (a, .inl (cX, n, .inr (.inr (.inr (.inr (va_up f (ix i) (some v))))))) H1 → (∀ q, q ≠ a → H1[q]? = H[q]?) → H1.size = H.size → va_S A H0 H1 locs1 → W p l e R s m args below meth c H1 locs1 cells slots Q (F0 m (pc + 1) ls rest)) : W p l e R s m args below meth c H locs cells slots Q (F0 m pc ls (.ref v :: .int i :: .ref a :: rest)) := by
  have hlt : i.toNatClampNeg < n := Nat.not_le.mp fun q => hin (Or.inr q)
  have h0 : ¬ i < 0 := fun q => hin (Or.inl q)
  obtain ⟨cellV, C, g1, g2, g3, g4⟩ := hv
  obtain ⟨kA, comp, k1, k2, k3, -⟩ := (hK.2 t0 _ ht).2
  obtain ⟨kE, hkE, -⟩ := Vm.findClass_spec k3
  obtain ⟨kC, hkC, -⟩ := Vm.findClass_spec g3
  obtain ⟨c0, t1, f1, f2, f3⟩ := Cond.castable_spec (va_Nw.use (A := args) rfl g4)
  cases g3.symm.trans f1
  cases k3.symm.trans f2
  refine W.aast hexec hb (show H[a]? = some (vp_cell cX (n, .inr (.inr (.inr (.inr f))))) from hP) (fun q h => by cases h) (fun h => by cases h) k1 k2 rfl hkE ⟨h0, by show _ < (arrV _ _ _).slots.size; rw [arrV_size]; exact hlt⟩ g1 (fun q h => by rw [h] at g2; cases g2) hkC f3 rfl rfl hdg fun H1 e z oq => ?_
  refine kk H1 _ ?_ oq z (hS.put z oq hAa)
  show H1[a]? = some (vp_cell _ _)
  rw [e]
  rw [vp_cell_q, vp_cell_q, arrV_store]
  congr 2
  funext q
  by_cases hq : q = i.toNatClampNeg
  · subst hq
    simp [updV, va_up, va_rf, ix]
  · simp [updV, va_up, hq, ix]
theorem h_aastN (hexec : p.tables.exec = Jvm.exec) (hb : c.code = cc) (hK : va_K D cl tys s) {cX : ClassId} {n : Nat} {f : Nat → Option Nat} {E1 : String} (hP : va_at D cl (a, .inl (cX, n, .inr (.inr (.inr (.inr f))))) H) (hAa : A a) (hS : va_S A H0 H locs) (t0 : Nat) (ht : tys[t0]? = some (cX, .object E1)) {i : Int32} (hin : vp_in i n) (hdg : decode cc pc = .ok (.aastore, 1))
    (kk : ∀ (H1 : Heap) (locs1 : List Loc), va_at D cl (a, .inl (cX, n, .inr (.inr (.inr (.inr (va_up f (ix i) none)))))) H1 → (∀ q, q ≠ a → H1[q]? = H[q]?) → H1.size = H.size → va_S A H0 H1 locs1 → W p l e R s m args below meth c H1 locs1 cells slots Q (F0 m (pc + 1) ls rest)) : W p l e R s m args below meth c H locs cells slots Q (F0 m pc ls (.null :: .int i :: .ref a :: rest)) := by
  refine va_WaastN (C := E1) hexec hb (show H[a]? = some (vp_cell cX (n, .inr (.inr (.inr (.inr f))))) from hP) ((hK.2 t0 _ ht).1 n (fun j => va_rf (f j))) (fun h => by cases h) (by show ¬ (i < 0 ∨ (arrV _ _ _).slots.size ≤ _); rw [arrV_size]; exact hin) rfl rfl hdg fun H1 e z oq => ?_
  refine kk H1 _ ?_ oq z (hS.put z oq hAa)
  show H1[a]? = some (vp_cell _ _)
  rw [e]
  rw [vp_cell_q, vp_cell_q, arrV_store]
  congr 2
  funext q
  by_cases hq : q = i.toNatClampNeg
  · subst hq
    simp [updV, va_up, va_rf, ix]
  · simp [updV, va_up, hq, ix]
theorem h_copyq (hexec : p.tables.exec = Jvm.exec) (hb : c.code = cc) (hml : c.maxLocals = ls.size) {own : String} {index : Nat} (hown : s.vm.findClass own = some m.cls) (hlink : (Cond.methodLink own index arraycopyName).before args s = true) (hnat : (Cond.native arraycopyName).before args s = true) (hstat : (Cond.static arraycopyName).before args s = true) (hini : (Cond.initialized "java/lang/System").before args s = true)
    (hK : va_K D cl tys s) {a0 : Nat} {c0 c1 : ClassId} {n0 n1 : Nat} {f g : Nat → Option Nat} {E0 E1 : String} (hc0 : va_at D cl (a0, .inl (c0, n0, .inr (.inr (.inr (.inr f))))) H) (hc1 : va_at D cl (a, .inl (c1, n1, .inr (.inr (.inr (.inr g))))) H) (hAa : A a) (hS : va_S A H0 H locs) (t0 t1 : Nat) (ht0 : tys[t0]? = some (c0, .object E0)) (ht1 : tys[t1]? = some (c1, .object E1))
    {sp dp n : Int32} (h1 : ¬ sp < 0) (h2 : ¬ dp < 0) (h3 : ¬ n < 0) (h4 : ix sp + ix n ≤ n0) (h5 : ix dp + ix n ≤ n1) (hel : ∀ i : Nat, i < ix n → ∀ y : Nat, f (ix sp + i) = some y → OV E1 s H y)
    (hframes : 1 ≤ R.frames) (hlocals : (rest.map fun v => v.category).sum + (nativeFrameWords "java/lang/System" "arraycopy" 5 + 11) ≤ R.locals) (hdg : decode cc pc = .ok (.invokestatic index, 3))
    (kk : ∀ (H1 : Heap) (locs1 : List Loc), va_at D cl (a, .inl (c1, n1, .inr (.inr (.inr (.inr (va_cpy f g (ix sp) (ix dp) (ix n))))))) H1 → (∀ q, q ≠ a → H1[q]? = H[q]?) → H1.size = H.size → va_S A H0 H1 locs1 → W p l e R s m args below meth c H1 locs1 cells slots Q (F0 m (pc + 3) ls rest)) : W p l e R s m args below meth c H locs cells slots Q (F0 m pc ls (.int n :: .int dp :: .ref a :: .int sp :: .ref a0 :: rest)) := by
  have nn : ∀ z : Int32, ¬ z < 0 → z.toInt = (z.toNatClampNeg : Int) := by
    intro z hz
    have hz0 : (0 : Int) ≤ z.toInt := by
      have := Int32.not_lt.mp hz
      simpa using Int32.le_iff_toInt_le.mp this
    show z.toInt = ((z.toInt.toNat : Nat) : Int)
    omega
  unfold ix at h4 h5 hel kk
  intro T hT X
  have hc0 : H[a0]? = some (vp_cell c0 (n0, .inr (.inr (.inr (.inr f))))) := hc0
  have hc1 : H[a]? = some (vp_cell c1 (n1, .inr (.inr (.inr (.inr g))))) := hc1
  obtain ⟨-, k0, hk0, cm0, hkk0⟩ := (hK.2 t0 _ ht0).1 n0 (fun j => va_rf (f j))
  obtain ⟨-, k1, hk1, cm1, hkk1⟩ := (hK.2 t1 _ ht1).1 n1 (fun j => va_rf (g j))
  obtain ⟨vm', X', step⟩ := X.arraycopy hexec hown hlink hnat hstat hini (src := a0) (dst := a) (cs := vp_cell c0 (n0, .inr (.inr (.inr (.inr f))))) (cd := vp_cell c1 (n1, .inr (.inr (.inr (.inr g))))) (srcPos := sp) (destPos := dp) (n := n) (by rw [hT]; exact hc0) (by rw [hT]; exact hc1)
    (fun _ h => by cases h) (fun _ h => by cases h) (fun h => by cases h) (fun h => by cases h) hk0 hk1 hkk0 hkk1 rfl h1 h2 h3
    (by rw [nn sp h1, nn n h3]; show ¬ _ > ((arrV c0 n0 (fun j => va_rf (f j))).slots.size : Int); rw [arrV_size]; omega)
    (by rw [nn dp h2, nn n h3]; show ¬ _ > ((arrV c1 n1 (fun j => va_rf (g j))).slots.size : Int); rw [arrV_size]; omega)
    (fun vm₁ hal i hi => by
      have e : (vp_cell c0 (n0, .inr (.inr (.inr (.inr f))))).slots.getD (sp.toNatClampNeg + i) .null = va_rf (f (sp.toNatClampNeg + i)) := by
        show (arrV c0 n0 (fun j => va_rf (f j))).slots.getD _ _ = _
        rw [Array.getD_eq_getD_getElem?, arrV_read _ _ (by omega)]
        rfl
      rw [e]
      cases hy : f (sp.toNatClampNeg + i) with
      | none => exact ⟨rfl, trivial⟩
      | some y =>
        obtain ⟨cellV, C, g1, g2, g3, g4⟩ := hel i hi y hy
        obtain ⟨kA, comp, r1, r2, r3, -⟩ := (hK.2 t1 _ ht1).2
        cases hk1.symm.trans r1
        cases hkk1.symm.trans r2
        obtain ⟨kC, hkC, -⟩ := Vm.findClass_spec g3
        obtain ⟨kE, hkE, -⟩ := Vm.findClass_spec r3
        obtain ⟨kC', hkC', -⟩ := hal.2.2 _ _ hkC
        obtain ⟨kE', hkE', -⟩ := hal.2.2 _ _ hkE
        obtain ⟨c9, t9, f1, f2, f3⟩ := Cond.castable_spec (va_Nw.use (A := args) rfl g4)
        cases g3.symm.trans f1
        cases r3.symm.trans f2
        refine ⟨rfl, cellV, (show T.heap[y]? = some cellV by rw [hT]; exact g1), (fun q h => by rw [h] at g2; cases g2), ⟨kC', hkC'⟩, ?_, ?_⟩
        · exact ⟨kE', hkE'⟩
        · show vm₁.assignable _ _ = true
          rw [hal.assignable]
          exact f3)
    (g := F0 m pc ls (.int n :: .int dp :: .ref a :: .int sp :: .ref a0 :: rest)) rfl (by rw [hml]) (rest := rest) rfl (by rw [hb]; exact hdg) hframes (by show 2 * 0 + _ + _ ≤ _; omega)
  have e1 : copied (vp_cell c0 (n0, .inr (.inr (.inr (.inr f))))) (vp_cell c1 (n1, .inr (.inr (.inr (.inr g))))) sp dp n = (vp_cell c1 (n1, .inr (.inr (.inr (.inr (va_cpy f g sp.toNatClampNeg dp.toNatClampNeg n.toNatClampNeg)))))) := by
    rw [vp_cell_q, vp_cell_q, vp_cell_q]
    exact va_copied (fun z => va_rf z) c0 c1 f g h4
  rw [e1] at X' step
  have hl : a < H.size := (Array.getElem?_eq_some_iff.mp hc1).1
  have hheap : ((T.setVm vm').setCell a (vp_cell c1 (n1, .inr (.inr (.inr (.inr (va_cpy f g sp.toNatClampNeg dp.toNatClampNeg n.toNatClampNeg))))))).heap = H.setIfInBounds a (vp_cell c1 (n1, .inr (.inr (.inr (.inr (va_cpy f g sp.toNatClampNeg dp.toNatClampNeg n.toNatClampNeg)))))) := by rw [← hT]; rfl
  have oq : ∀ q : Nat, q ≠ a → (H.setIfInBounds a (vp_cell c1 (n1, .inr (.inr (.inr (.inr (va_cpy f g sp.toNatClampNeg dp.toNatClampNeg n.toNatClampNeg)))))))[q]? = H[q]? := fun q hq => by simp [Array.getElem?_setIfInBounds, Ne.symm hq]
  obtain ⟨t, a1, b1⟩ := kk _ _ (show (H.setIfInBounds a _)[a]? = some _ by simp [Array.getElem?_setIfInBounds, hl]) oq (by simp) ⟨by simp; exact hS.1, fun q g1 g2 => by
      rw [oq q (fun e => g2 (by rw [e]; exact hAa))]
      exact hS.2.1 q g1 g2, fun q hq => by
      rcases List.mem_append.mp hq with h | h
      · exact hS.2.2 q h
      · obtain ⟨z, -, hz⟩ := List.mem_map.mp h
        rw [← hz]
        exact hAa⟩ _ hheap X'
  exact ⟨t, step t a1, b1⟩
end OBA
section OBL
variable {p : Program} {l : Launch} {e : Env} {R : Room} {s : State} {m : MethodId} {args : Array Value} {below : List Frame} {meth : Method} {c : Code} {H : Heap} {locs : List Loc} {cells slots : Nat} {Q : State → Prop}
variable {cc : ByteArray} {pc nL : Nat} {ls : Array Slot} {rest st0 : List Value} {A A0 : Nat → Prop} {H0 : Heap} {D : va_G} {cA : Nat → ClassId} {cl : List vw_C} {tys : List (ClassId × FieldType)} {a : Nat}
theorem h_alenq (hexec : p.tables.exec = Jvm.exec) (hb : c.code = cc) (hK : va_K D cl tys s) {cX : ClassId} {n : Nat} {f : Nat → Option Nat} {ty : FieldType} (hP : va_at D cl (a, .inl (cX, n, .inr (.inr (.inr (.inr f))))) H) (t0 : Nat) (ht : tys[t0]? = some (cX, ty)) (hdg : decode cc pc = .ok (.arraylength, 1))
    (kk : W p l e R s m args below meth c H locs cells slots Q (F0 m (pc + 1) ls (.int (nI n) :: rest))) : W p l e R s m args below meth c H locs cells slots Q (F0 m pc ls (.ref a :: rest)) :=
  h_alen hexec hb hK hP t0 ht rfl hdg kk
end OBL
/-- the cells of a list -/
abbrev LA (al ed : Nat) : Nat → Prop := fun q => q = al ∨ q = ed
def ALV (D : va_G) (cA : Nat → ClassId) (al ed n cap : Nat) (f : Nat → Option Nat) (U : State) : Prop := ALW D cA al ed n cap f U.heap ∧ KK D cA U ∧ al ≠ ed
theorem ALV.blind {D : va_G} {cA : Nat → ClassId} {al ed n cap : Nat} {f : Nat → Option Nat} : Blind (ALV D cA al ed n cap f) := fun U g mk a h => ⟨h.1, va_K.moved (u := U) (U := U.calling g mk a) (Vm.Alike.refl U.vm) h.2.1, h.2.2⟩
theorem ALW.at {D : va_G} {cA : Nat → ClassId} {al ed n cap : Nat} {f : Nat → Option Nat} {H : Heap} {t : State} (h : ALW D cA al ed n cap f H) (ht : t.heap = H) : ALW D cA al ed n cap f t.heap := ht ▸ h
set_option maxHeartbeats 4000000 in
set_option maxRecDepth 100000 in
theorem metJ2_add_2 (l : Launch) {D : va_G} {cA : Nat → ClassId} {al ed n cap : Nat} {f : Nat → Option Nat} {v : Nat} (hn : n < cap) : Met l yJ2_add_2 (ws_ yJ2_add_2 cJ2_add_2 4 none) ({ frames := 1, cells := 0, slots := 0, locals := 60 }) (va_Pc [.ref al, .ref v, .ref ed, .int (nI n)] (fun U => ALV D cA al ed n cap f U ∧ OV "java/lang/Object" U U.heap v)) (va_Qv (fun _ : Unit => True) (fun _ t => ALW D cA al ed (n + 1) cap (va_up f n (some v)) t.heap) (LA al ed)) 0 0 (LA al ed) := by
  refine Met.ofW (cc := cJ2_add_2) (maxL := 4) (ret := none) (by decide) rfl ?_
  intro p e s m args below meth c s₁ B hml hv
  obtain ⟨rfl, hv⟩ := hv
  have hx := B.exec
  have hb := B.bytes
  have hr := B.returns
  have hts := atoms_spec (ws := ws_ yJ2_add_2 cJ2_add_2 4 none) B.pre
  have hts : ∀ w ∈ lw_all, w.before _ s = true := fun w h => hts w (List.mem_cons_of_mem _ h)
  have hown : s.vm.findClass RJ2 = some m.cls := findClass_of_methodNamed B.named
  have hlocks := B.notSynchronized
  have hS : va_S (LA al ed) s.heap s.heap [] := va_S.rf
  have hl := lv_entry ([.ref al, .ref v, .ref ed, .int (nI n)]) (n := 4) (Nat.le_of_ble_eq_true rfl)
  rw [lg_entry_eq]
  generalize (lg_sl ([.ref al, .ref v, .ref ed, .int (nI n)]) ++ List.replicate (4 - (lg_sl ([.ref al, .ref v, .ref ed, .int (nI n)])).length) Slot.unset).toArray = ls at hl ⊢
  have hl : lv_has ls 4 [(0, .ref al), (1, .ref v), (2, .ref ed), (3, .int (nI n))] := hl
  obtain ⟨⟨⟨⟨mc, ha⟩, hed, hcap, hcap2⟩, hK, hne⟩, hv⟩ := hv
  refine lv_iload_n hx hb dJ2_add_2_0 rfl (lv_at hl 3 rfl) ?_
  refine lv_aload_n hx hb dJ2_add_2_1 rfl (lv_at hl 2 rfl) ?_
  refine h_alenq hx hb hK hed 3 rfl dJ2_add_2_2 ?_
  refine lv_icmp_ne (tgt := 11) hx hb dJ2_add_2_3 (by decide) (fun _ => ?_) (fun h => absurd h (fun h => absurd ((nI_eq (by omega) hcap2).mp h) (by omega)))
  refine lv_aload_n hx hb dJ2_add_2_11 rfl (lv_at hl 2 rfl) ?_
  refine lv_iload_n hx hb dJ2_add_2_12 rfl (lv_at hl 3 rfl) ?_
  refine lv_aload_n hx hb dJ2_add_2_13 rfl (lv_at hl 1 rfl) ?_
  refine h_aast (A := LA al ed) hx hb hK hed (Or.inr rfl) hS 3 rfl hv (vp_in_nI hn hcap2) dJ2_add_2_14 (fun H locs hed oq hz hS => ?_)
  have ha := ha.kept (oq _ hne)
  rw [show ix (nI n) = n from nI_clamp (by omega)] at hed
  refine lv_aload_n hx hb dJ2_add_2_15 rfl (lv_at hl 0 rfl) ?_
  refine lv_iload_n hx hb dJ2_add_2_16 rfl (lv_at hl 3 rfl) ?_
  refine lv_iconst (v := 1) hx hb dJ2_add_2_17 (by decide) ?_
  refine lv_iadd hx hb dJ2_add_2_18 ?_
  refine h_put (A := LA al ed) (C := RJ2) (T := TJ2) (N := 3) (ci := 17) hx hb hts in_J2 tyJ2 tyJ2_ok nmJ2 hown hK ha (Or.inl rfl) hS rfl 2 (by decide) (hts _ q489) (fun _ h9 => h9) rfl (ty := .int) (by decide +kernel) rfl rfl (Nat.lt_of_lt_of_le (by decide : 2 < 3) (Nat.le_of_eq rfl)) dJ2_add_2_19 (fun H locs ha oq hz hS => ?_)
  have hed := hed.kept (oq _ hne.symm)
  rw [nI_1] at ha
  exact W.vret hx hb hr (fun t ht _ => ⟨⟨(), rfl, trivial, ALW.at ⟨⟨mc, ha⟩, hed, by omega, hcap2⟩ ht⟩, hS.F ht⟩) hS.2.2 dJ2_add_2_22 hlocks
def ALOV (D : va_G) (cA : Nat → ClassId) (al ed n cap : Nat) (f : Nat → Option Nat) (v : Nat) (U : State) : Prop := ALV D cA al ed n cap f U ∧ OV "java/lang/Object" U U.heap v
theorem ALOV.blind {D : va_G} {cA : Nat → ClassId} {al ed n cap : Nat} {f : Nat → Option Nat} {v : Nat} : Blind (ALOV D cA al ed n cap f v) := fun U g mk a h => ⟨ALV.blind U g mk a h.1, h.2.calling⟩
section ADC
variable {p : Program} {l : Launch} {e : Env} {R : Room} {s : State} {m : MethodId} {args : Array Value} {below : List Frame} {meth : Method} {c : Code} {H : Heap} {locs : List Loc} {cells slots : Nat} {Q : State → Prop}
variable {cc : ByteArray} {pc nL : Nat} {ls : Array Slot} {rest st0 : List Value} {A A0 : Nat → Prop} {H0 : Heap} {D : va_G} {cA : Nat → ClassId} {cl : List vw_C} {tys : List (ClassId × FieldType)} {a : Nat}
theorem R_callVL {y : MethodName} {bytes : ByteArray} {maxL n index : Nat} {ret : Option FieldType} {ws : List Cond} {rm : Room} {As : List Value} {own C : String} {b : Addr} {Φ : State → Prop} {post : Prop} {B : State → Prop} {A1 : Nat → Prop} (S : CallFix p m c cc nL s args lw_all own) (hS : va_S A s.heap H locs) (hA1 : ∀ q, A1 q → A q) (met : Met l y ws rm (va_Pc (.ref b :: As) Φ) (va_Qv (fun _ : Unit => post) (fun _ t => B t) A1) 0 0 A1) (hbl : Blind Φ) (hΦ : ∀ U : State, U.heap = H → s.WarmedH U.vm → Φ U) (hr : ∃ cellB : Cell, H[b]? = some cellB ∧ cellB.vm.isStatics = false ∧ s.vm.findClass C = some cellB.cls) (cw : CallW R s args own C index y bytes maxL ret ws rm 0 0 n) (hn : As.length = n) (hsize : ls.size = nL) (hst : st0 = As.reverse ++ .ref b :: rest) (hW : (rest.map fun v => v.category).sum ≤ 8) (hdg : decode cc pc = .ok (.invokevirtual index, 3)) (hc : cells ≤ R.cells ∧ slots ≤ R.slots)
    (kk : ∀ (t : State) (H1 : Heap) (locs1 : List Loc), t.heap = H1 → post → B t → (∀ q : Nat, q < H.size → ¬ A1 q → H1[q]? = H[q]?) → va_S A s.heap H1 locs1 → W p l e R s m args below meth c H1 locs1 cells slots Q (F0 m (pc + 3) ls rest)) : W p l e R s m args below meth c H locs cells slots Q (F0 m pc ls st0) :=
  va_callv (va_runV S met cw ⟨hbl.pc, hr, fun U hU hW => ⟨rfl, hΦ U hU hW⟩⟩ rfl hn hsize hst (lv_room hW) hdg hc) hS (fun q _ h => hA1 q h) hA1 (fun u t H1 locs1 ht hvm hw hB hz hk hS1 => kk t H1 locs1 ht hw hB hk hS1)
theorem R_callIL {y : MethodName} {bytes : ByteArray} {maxL n index : Nat} {ret : Option FieldType} {ws : List Cond} {rm : Room} {As : List Value} {own C : String} {b : Addr} {Φ : State → Prop} {post : Int32 → Prop} {B : State → Prop} {A1 : Nat → Prop} (S : CallFix p m c cc nL s args lw_all own) (hS : va_S A s.heap H locs) (hA1 : ∀ q, A1 q → A q) (met : Met l y ws rm (va_Pc (.ref b :: As) Φ) (va_Qi (fun r (_ : Unit) => post r) (fun _ t => B t) A1) 0 0 A1) (hbl : Blind Φ) (hΦ : ∀ U : State, U.heap = H → s.WarmedH U.vm → Φ U) (hr : ∃ cellB : Cell, H[b]? = some cellB ∧ cellB.vm.isStatics = false ∧ s.vm.findClass C = some cellB.cls) (cw : CallW R s args own C index y bytes maxL ret ws rm 0 0 n) (hn : As.length = n) (hsize : ls.size = nL) (hst : st0 = As.reverse ++ .ref b :: rest) (hW : (rest.map fun v => v.category).sum ≤ 8) (hdg : decode cc pc = .ok (.invokevirtual index, 3)) (hc : cells ≤ R.cells ∧ slots ≤ R.slots)
    (kk : ∀ (r : Int32) (t : State) (H1 : Heap) (locs1 : List Loc), t.heap = H1 → post r → B t → (∀ q : Nat, q < H.size → ¬ A1 q → H1[q]? = H[q]?) → va_S A s.heap H1 locs1 → W p l e R s m args below meth c H1 locs1 cells slots Q (F0 m (pc + 3) ls (.int r :: rest))) : W p l e R s m args below meth c H locs cells slots Q (F0 m pc ls st0) :=
  va_calli (va_runV S met cw ⟨hbl.pc, hr, fun U hU hW => ⟨rfl, hΦ U hU hW⟩⟩ rfl hn hsize hst (lv_room hW) hdg hc) hS (fun q _ h => hA1 q h) hA1 (fun r u t H1 locs1 ht hvm hw hB hz hk hS1 => kk r t H1 locs1 ht hw hB hk hS1)
theorem R_callRL {y : MethodName} {bytes : ByteArray} {maxL n index : Nat} {ret : Option FieldType} {ws : List Cond} {rm : Room} {As : List Value} {own C : String} {b q0 : Addr} {Φ : State → Prop} {B : State → Prop} {A1 : Nat → Prop} (S : CallFix p m c cc nL s args lw_all own) (hS : va_S A s.heap H locs) (hA1 : ∀ q, A1 q → A q) (met : Met l y ws rm (va_Pc (.ref b :: As) Φ) (va_Qr (fun (_ : Unit) => True) (fun _ a t => a = q0 ∧ B t) A1) 0 0 A1) (hbl : Blind Φ) (hΦ : ∀ U : State, U.heap = H → s.WarmedH U.vm → Φ U) (hr : ∃ cellB : Cell, H[b]? = some cellB ∧ cellB.vm.isStatics = false ∧ s.vm.findClass C = some cellB.cls) (cw : CallW R s args own C index y bytes maxL ret ws rm 0 0 n) (hn : As.length = n) (hsize : ls.size = nL) (hst : st0 = As.reverse ++ .ref b :: rest) (hW : (rest.map fun v => v.category).sum ≤ 8) (hdg : decode cc pc = .ok (.invokevirtual index, 3)) (hc : cells ≤ R.cells ∧ slots ≤ R.slots)
    (kk : ∀ (t : State) (H1 : Heap) (locs1 : List Loc), t.heap = H1 → B t → (∀ q : Nat, q < H.size → ¬ A1 q → H1[q]? = H[q]?) → va_S A s.heap H1 locs1 → W p l e R s m args below meth c H1 locs1 cells slots Q (F0 m (pc + 3) ls (.ref q0 :: rest))) : W p l e R s m args below meth c H locs cells slots Q (F0 m pc ls st0) :=
  va_callr (va_runV S met cw ⟨hbl.pc, hr, fun U hU hW => ⟨rfl, hΦ U hU hW⟩⟩ rfl hn hsize hst (lv_room hW) hdg hc) hS (fun q _ h => hA1 q h) hA1 (fun u ra t H1 locs1 ht hvm hw hB hz hk hS1 => by obtain ⟨rfl, hB⟩ := hB; exact kk t H1 locs1 ht hB hk hS1)
end ADC
set_option maxHeartbeats 4000000 in
set_option maxRecDepth 100000 in
theorem metJ2_add (l : Launch) {D : va_G} {cA : Nat → ClassId} {al ed n cap : Nat} {f : Nat → Option Nat} {v : Nat} (hn : n < cap) (hva : v ≠ al) : Met l yJ2_add (ws_ yJ2_add cJ2_add 2 (some .boolean)) ({ frames := 2, cells := 0, slots := 0, locals := 160 }) (va_Pc [.ref al, .ref v] (ALOV D cA al ed n cap f v)) (va_Qi (fun r (_ : Unit) => r = 1) (fun _ t => ALW D cA al ed (n + 1) cap (va_up f n (some v)) t.heap) (LA al ed)) 0 0 (LA al ed) := by
  refine Met.ofW (cc := cJ2_add) (maxL := 2) (ret := (some .boolean)) (by decide) rfl ?_
  intro p e s m args below meth c s₁ B hml hv
  obtain ⟨rfl, hv⟩ := hv
  have hx := B.exec
  have hb := B.bytes
  have hr := B.returns
  have hts := atoms_spec (ws := ws_ yJ2_add cJ2_add 2 (some .boolean)) B.pre
  have hts : ∀ w ∈ lw_all, w.before _ s = true := fun w h => hts w (List.mem_cons_of_mem _ h)
  have hown : s.vm.findClass RJ2 = some m.cls := findClass_of_methodNamed B.named
  have hlocks := B.notSynchronized
  have hS : va_S (LA al ed) s.heap s.heap [] := va_S.rf
  have hl := lv_entry ([.ref al, .ref v]) (n := 2) (Nat.le_of_ble_eq_true rfl)
  rw [lg_entry_eq]
  generalize (lg_sl ([.ref al, .ref v]) ++ List.replicate (2 - (lg_sl ([.ref al, .ref v])).length) Slot.unset).toArray = ls at hl ⊢
  have hl : lv_has ls 2 [(0, .ref al), (1, .ref v)] := hl
  obtain ⟨⟨⟨⟨mc, ha⟩, hed, hcap, hcap2⟩, hK, hne⟩, hv⟩ := hv
  refine lv_aload_n hx hb dJ2_add_0 rfl (lv_at hl 0 rfl) ?_
  refine lv_dup hx hb dJ2_add_1 rfl ?_
  refine h_get (C := RJ2) (T := TJ2) (N := 3) (ci := 17) hx hb hts in_J2 hown hK ha rfl 0 (v := .int mc) (by decide) (hts _ q491) (fun x h9 => u_same (hts _ q492) x h9) rfl dJ2_add_2 ?_
  refine lv_iconst (v := 1) hx hb dJ2_add_5 (by decide) ?_
  refine lv_iadd hx hb dJ2_add_6 ?_
  refine h_put (A := LA al ed) (C := RJ2) (T := TJ2) (N := 3) (ci := 17) hx hb hts in_J2 tyJ2 tyJ2_ok nmJ2 hown hK ha (Or.inl rfl) hS rfl 0 (by decide) (hts _ q491) (fun x h9 => u_same (hts _ q492) x h9) rfl (ty := .int) (by decide +kernel) rfl rfl (Nat.lt_of_lt_of_le (by decide : 0 < 3) (Nat.le_of_eq rfl)) dJ2_add_7 (fun H locs ha oq hz hS => ?_)
  have hed := hed.kept (oq _ hne.symm)
  have hv := hv.kept (fun _ => oq _ hva)
  refine lv_aload_n hx hb dJ2_add_10 rfl (lv_at hl 0 rfl) ?_
  refine lv_aload_n hx hb dJ2_add_11 rfl (lv_at hl 1 rfl) ?_
  refine lv_aload_n hx hb dJ2_add_12 rfl (lv_at hl 0 rfl) ?_
  refine h_get (C := RJ2) (T := TJ2) (N := 3) (ci := 17) hx hb hts in_J2 hown hK ha rfl 1 (v := .ref ed) (by decide) (hts _ q488) (fun _ h9 => h9) rfl dJ2_add_13 ?_
  refine lv_aload_n hx hb dJ2_add_16 rfl (lv_at hl 0 rfl) ?_
  refine h_get (C := RJ2) (T := TJ2) (N := 3) (ci := 17) hx hb hts in_J2 hown hK ha rfl 2 (v := .int (nI n)) (by decide) (hts _ q489) (fun _ h9 => h9) rfl dJ2_add_17 ?_
  refine R_callVL (As := [.ref v, .ref ed, .int (nI n)]) (rest := []) (C := RJ2) ⟨hx, hb, hml, hown, hts⟩ hS (fun _ h => h) (metJ2_add_2 l (D := D) (cA := cA) (al := al) (ed := ed) (n := n) (cap := cap) (f := f) (v := v) hn) ALOV.blind (fun U hU hW => ⟨⟨by rw [hU]; exact ⟨⟨_, ha⟩, hed, hcap, hcap2⟩, va_K.moved hW.alike hK, hne⟩, by rw [hU]; exact hv.warm hW⟩) (at_recv hK ha rfl) (cwV 3 hts (lw_V q607 q609 qs1 q108 q610) rfl rfl rfl (by decide +kernel) ⟨Nat.le_of_ble_eq_true rfl, Nat.le_of_ble_eq_true rfl⟩) rfl hl.1 rfl (Nat.le_of_ble_eq_true rfl) dJ2_add_20 ⟨Nat.zero_le _, Nat.zero_le _⟩ (fun t H locs ht _ hB hk hS => ?_)
  subst ht
  refine lv_iconst (v := 1) hx hb dJ2_add_23 (by decide) ?_
  exact W.zret (v := 1) hx hb hr rfl (fun t ht _ => ⟨⟨_, (), rfl, rfl, ALW.at hB ht⟩, hS.F ht⟩) hS.2.2 dJ2_add_24 hlocks
/-- the first taken out of n -/
def shf1 (f : Nat → Option Nat) (n : Nat) : Nat → Option Nat := va_up (va_cpy f f 1 0 (n - 1)) (n - 1) none
def ALRV (D : va_G) (cA : Nat → ClassId) (z0 : Nat) (E : Nat → Nat → Nat) (al ed n cap : Nat) (f : Nat → Option Nat) (U : State) : Prop := ALV D cA al ed n cap f U ∧ ∀ i y, i < n → f i = some y → OV "java/lang/Object" U U.heap y ∧ y ≠ al
theorem ALRV.blind {D : va_G} {cA : Nat → ClassId} {z0 : Nat} {E : Nat → Nat → Nat} {al ed n cap : Nat} {f : Nat → Option Nat} : Blind (ALRV D cA z0 E al ed n cap f) := fun U g mk a h => ⟨ALV.blind U g mk a h.1, fun i y h1 h2 => ⟨((h.2 i y h1 h2).1).calling, (h.2 i y h1 h2).2⟩⟩
set_option maxHeartbeats 4000000 in
set_option maxRecDepth 100000 in
theorem metJ2_fastRemove (l : Launch) {D : va_G} {cA : Nat → ClassId} {z0 : Nat} {E : Nat → Nat → Nat} {al ed n cap : Nat} {f : Nat → Option Nat} (hn : 2 ≤ n) : Met l yJ2_fastRemove (ws_ yJ2_fastRemove cJ2_fastRemove 4 none) ({ frames := 2, cells := 0, slots := 0, locals := 80 }) (va_Pc [.ref al, .ref ed, .int (nI 0)] (ALRV D cA z0 E al ed n cap f)) (va_Qv (fun _ : Unit => True) (fun _ t => ALW D cA al ed (n - 1) cap (shf1 f n) t.heap) (LA al ed)) 0 0 (LA al ed) := by
  refine Met.ofW (cc := cJ2_fastRemove) (maxL := 4) (ret := none) (by decide) rfl ?_
  intro p e s m args below meth c s₁ B hml hv
  obtain ⟨rfl, hv⟩ := hv
  have hx := B.exec
  have hb := B.bytes
  have hr := B.returns
  have hts := atoms_spec (ws := ws_ yJ2_fastRemove cJ2_fastRemove 4 none) B.pre
  have hts : ∀ w ∈ lw_all, w.before _ s = true := fun w h => hts w (List.mem_cons_of_mem _ h)
  have hown : s.vm.findClass RJ2 = some m.cls := findClass_of_methodNamed B.named
  have hlocks := B.notSynchronized
  have hS : va_S (LA al ed) s.heap s.heap [] := va_S.rf
  have hl := lv_entry ([.ref al, .ref ed, .int (nI 0)]) (n := 4) (Nat.le_of_ble_eq_true rfl)
  rw [lg_entry_eq]
  generalize (lg_sl ([.ref al, .ref ed, .int (nI 0)]) ++ List.replicate (4 - (lg_sl ([.ref al, .ref ed, .int (nI 0)])).length) Slot.unset).toArray = ls at hl ⊢
  have hl : lv_has ls 4 [(0, .ref al), (1, .ref ed), (2, .int (nI 0))] := hl
  obtain ⟨⟨⟨⟨mc, ha⟩, hed, hcap, hcap2⟩, hK, hne⟩, hv⟩ := hv
  refine lv_aload_n hx hb dJ2_fastRemove_0 rfl (lv_at hl 0 rfl) ?_
  refine lv_dup hx hb dJ2_fastRemove_1 rfl ?_
  refine h_get (C := RJ2) (T := TJ2) (N := 3) (ci := 17) hx hb hts in_J2 hown hK ha rfl 0 (v := .int mc) (by decide) (hts _ q491) (fun x h9 => u_same (hts _ q492) x h9) rfl dJ2_fastRemove_2 ?_
  refine lv_iconst (v := 1) hx hb dJ2_fastRemove_5 (by decide) ?_
  refine lv_iadd hx hb dJ2_fastRemove_6 ?_
  refine h_put (A := LA al ed) (C := RJ2) (T := TJ2) (N := 3) (ci := 17) hx hb hts in_J2 tyJ2 tyJ2_ok nmJ2 hown hK ha (Or.inl rfl) hS rfl 0 (by decide) (hts _ q491) (fun x h9 => u_same (hts _ q492) x h9) rfl (ty := .int) (by decide +kernel) rfl rfl (Nat.lt_of_lt_of_le (by decide : 0 < 3) (Nat.le_of_eq rfl)) dJ2_fastRemove_7 (fun H locs ha oq hz hS => ?_)
  have hed := hed.kept (oq _ hne.symm)
  have hv := fun i y h1 h2 => (hv i y h1 h2).1.kept (fun _ => oq y (hv i y h1 h2).2)
  refine lv_aload_n hx hb dJ2_fastRemove_10 rfl (lv_at hl 0 rfl) ?_
  refine h_get (C := RJ2) (T := TJ2) (N := 3) (ci := 17) hx hb hts in_J2 hown hK ha rfl 2 (v := .int (nI n)) (by decide) (hts _ q489) (fun _ h9 => h9) rfl dJ2_fastRemove_11 ?_
  refine lv_iconst (v := 1) hx hb dJ2_fastRemove_14 (by decide) ?_
  refine lv_isub hx hb dJ2_fastRemove_15 ?_
  rw [show nI n - 1 = nI (n - 1) by obtain ⟨k, rfl⟩ : ∃ k, n = k + 1 := ⟨n - 1, by omega⟩
                                    exact nI_pred k]
  refine lv_dup hx hb dJ2_fastRemove_16 rfl ?_
  refine lv_istore_n (lv' := [(3, .int (nI (n - 1))), (0, .ref al), (1, .ref ed), (2, .int (nI 0))]) hx hb dJ2_fastRemove_17 rfl hl (by decide) rfl (fun ls hl => ?_)
  refine lv_iload_n hx hb dJ2_fastRemove_18 rfl (lv_at hl 3 rfl) ?_
  refine lv_icmp_le (tgt := 34) hx hb dJ2_fastRemove_19 (by decide) (fun h => absurd h (nI_ge (by omega) (by omega))) (fun _ => ?_)
  refine lv_aload_n hx hb dJ2_fastRemove_22 rfl (lv_at hl 2 rfl) ?_
  refine lv_iload_n hx hb dJ2_fastRemove_23 rfl (lv_at hl 3 rfl) ?_
  refine lv_iconst (v := 1) hx hb dJ2_fastRemove_24 (by decide) ?_
  refine lv_iadd hx hb dJ2_fastRemove_25 ?_
  refine lv_aload_n hx hb dJ2_fastRemove_26 rfl (lv_at hl 2 rfl) ?_
  refine lv_iload_n hx hb dJ2_fastRemove_27 rfl (lv_at hl 3 rfl) ?_
  refine lv_iload_n hx hb dJ2_fastRemove_28 rfl (lv_at hl 0 rfl) ?_
  refine lv_iload_n hx hb dJ2_fastRemove_29 rfl (lv_at hl 3 rfl) ?_
  refine lv_isub hx hb dJ2_fastRemove_30 ?_
  rw [show nI (n - 1) - nI 0 = nI (n - 1) by rw [pk_sub (by omega)]; rfl]
  have e1 : ix (nI 0 + 1) = 1 := by decide
  have e0 : ix (nI 0) = 0 := by decide
  have en : ix (nI (n - 1)) = n - 1 := nI_clamp (by omega)
  refine h_copyq (A := LA al ed) (E0 := "java/lang/Object") (E1 := "java/lang/Object") hx hb (hml.trans hl.1.symm) hown (hts _ q825) (hts _ q295) (hts _ q294) (hts _ q120) hK hed hed (Or.inr rfl) hS 3 3 rfl rfl (by decide) (by decide) (nI_pos (by omega)) (by rw [e1, en]; omega) (by rw [e0, en]; omega) (fun i hi y hy => by rw [e1] at hy; rw [en] at hi; exact hv (1 + i) y (by omega) hy) (Nat.le_of_ble_eq_true rfl) (Nat.le_of_ble_eq_true (by decide +kernel)) dJ2_fastRemove_31 (fun H locs hed oq2 hz2 hS => ?_)
  rw [e0, e1, en] at hed
  have ha := ha.kept (oq2 _ hne)
  refine lv_aload_n hx hb dJ2_fastRemove_34 rfl (lv_at hl 2 rfl) ?_
  refine lv_aload_n hx hb dJ2_fastRemove_35 rfl (lv_at hl 1 rfl) ?_
  refine lv_iload_n hx hb dJ2_fastRemove_36 rfl (lv_at hl 0 rfl) ?_
  refine lv_dup_x1 hx hb dJ2_fastRemove_37 rfl rfl ?_
  refine h_put (A := LA al ed) (C := RJ2) (T := TJ2) (N := 3) (ci := 17) hx hb hts in_J2 tyJ2 tyJ2_ok nmJ2 hown hK ha (Or.inl rfl) hS rfl 2 (by decide) (hts _ q489) (fun _ h9 => h9) rfl (ty := .int) (by decide +kernel) rfl rfl (Nat.lt_of_lt_of_le (by decide : 2 < 3) (Nat.le_of_eq rfl)) dJ2_fastRemove_38 (fun H locs ha oq hz hS => ?_)
  have hed := hed.kept (oq _ hne.symm)
  refine lv_null hx hb dJ2_fastRemove_41 ?_
  refine h_aastN (A := LA al ed) hx hb hK hed (Or.inr rfl) hS 3 rfl (vp_in_nI (by omega) hcap2) dJ2_fastRemove_42 (fun H locs hed oq3 hz3 hS => ?_)
  rw [en] at hed
  have ha := ha.kept (oq3 _ hne)
  exact W.vret hx hb hr (fun t ht _ => ⟨⟨(), rfl, trivial, ALW.at ⟨⟨_, ha⟩, hed, by omega, hcap2⟩ ht⟩, hS.F ht⟩) hS.2.2 dJ2_fastRemove_43 hlocks
set_option maxHeartbeats 4000000 in
set_option maxRecDepth 100000 in
theorem metJ2_remove (l : Launch) {D : va_G} {cA : Nat → ClassId} {z0 : Nat} {E : Nat → Nat → Nat} {al ed n cap q0 : Nat} {f : Nat → Option Nat} (hn : 2 ≤ n) (h0 : f 0 = some q0) : Met l yJ2_remove (ws_ yJ2_remove cJ2_remove 4 (some (.object "java/lang/Object"))) ({ frames := 4, cells := 0, slots := 0, locals := 200 }) (va_Pc [.ref al, .int (nI 0)] (ALRV D cA z0 E al ed n cap f)) (va_Qr (fun (_ : Unit) => True) (fun _ a t => a = q0 ∧ ALW D cA al ed (n - 1) cap (shf1 f n) t.heap) (LA al ed)) 0 0 (LA al ed) := by
  refine Met.ofW (cc := cJ2_remove) (maxL := 4) (ret := (some (.object "java/lang/Object"))) (by decide) rfl ?_
  intro p e s m args below meth c s₁ B hml hv
  obtain ⟨rfl, hv⟩ := hv
  have hx := B.exec
  have hb := B.bytes
  have hr := B.returns
  have hts := atoms_spec (ws := ws_ yJ2_remove cJ2_remove 4 (some (.object "java/lang/Object"))) B.pre
  have hts : ∀ w ∈ lw_all, w.before _ s = true := fun w h => hts w (List.mem_cons_of_mem _ h)
  have hown : s.vm.findClass RJ2 = some m.cls := findClass_of_methodNamed B.named
  have hlocks := B.notSynchronized
  have hS : va_S (LA al ed) s.heap s.heap [] := va_S.rf
  have hl := lv_entry ([.ref al, .int (nI 0)]) (n := 4) (Nat.le_of_ble_eq_true rfl)
  rw [lg_entry_eq]
  generalize (lg_sl ([.ref al, .int (nI 0)]) ++ List.replicate (4 - (lg_sl ([.ref al, .int (nI 0)])).length) Slot.unset).toArray = ls at hl ⊢
  have hl : lv_has ls 4 [(0, .ref al), (1, .int (nI 0))] := hl
  obtain ⟨⟨⟨⟨mc, ha⟩, hed, hcap, hcap2⟩, hK, hne⟩, hv⟩ := hv
  refine lv_iload_n hx hb dJ2_remove_0 rfl (lv_at hl 1 rfl) ?_
  refine lv_aload_n hx hb dJ2_remove_1 rfl (lv_at hl 0 rfl) ?_
  refine h_get (C := RJ2) (T := TJ2) (N := 3) (ci := 17) hx hb hts in_J2 hown hK ha rfl 2 (v := .int (nI n)) (by decide) (hts _ q489) (fun _ h9 => h9) rfl dJ2_remove_2 ?_
  refine R_callIS (As := [.int (nI 0), .int (nI n)]) (rest := []) (Φ := fun _ => True) ⟨hx, hb, hml, hown, hts⟩ hS (metJ19_checkIndex l (by omega) (by omega)) (fun _ _ _ _ h => h) (fun _ _ _ => trivial) (va_cwS 2 hts (lw_S q815 q816 q145 q817) rfl rfl rfl (by decide +kernel) ⟨Nat.le_of_ble_eq_true rfl, Nat.le_of_ble_eq_true rfl⟩) rfl hl.1 rfl (Nat.le_of_ble_eq_true rfl) dJ2_remove_5 ⟨Nat.zero_le _, Nat.zero_le _⟩ (fun r H locs hw hk hS => ?_)
  have hv := fun i y h1 h2 => (⟨(hv i y h1 h2).1.kept (hk y), (hv i y h1 h2).2⟩ : OV "java/lang/Object" s H y ∧ y ≠ al)
  have ha := ha.kept (hk _ ha.lt)
  have hed := hed.kept (hk _ hed.lt)
  refine lv_pop hx hb dJ2_remove_8 rfl ?_
  refine lv_aload_n hx hb dJ2_remove_9 rfl (lv_at hl 0 rfl) ?_
  refine h_get (C := RJ2) (T := TJ2) (N := 3) (ci := 17) hx hb hts in_J2 hown hK ha rfl 1 (v := .ref ed) (by decide) (hts _ q488) (fun _ h9 => h9) rfl dJ2_remove_10 ?_
  refine lv_astore_n (lv' := [(2, .ref ed), (0, .ref al), (1, .int (nI 0))]) hx hb dJ2_remove_13 rfl hl (by decide) rfl (fun ls hl => ?_)
  refine lv_aload_n hx hb dJ2_remove_14 rfl (lv_at hl 0 rfl) ?_
  refine lv_iload_n hx hb dJ2_remove_15 rfl (lv_at hl 2 rfl) ?_
  refine va_aldq (D := D) (cl := vwCl) (tys := tyL cA) hx hb hK (va_P1 hed) 0 3 rfl rfl (vp_in_nI (by omega) (by omega)) dJ2_remove_16 ?_
  rw [nI_clamp (by omega), h0]
  refine lv_astore_n (lv' := [(3, .ref q0), (2, .ref ed), (0, .ref al), (1, .int (nI 0))]) hx hb dJ2_remove_17 rfl hl (by decide) rfl (fun ls hl => ?_)
  refine lv_aload_n hx hb dJ2_remove_18 rfl (lv_at hl 2 rfl) ?_
  refine lv_aload_n hx hb dJ2_remove_19 rfl (lv_at hl 1 rfl) ?_
  refine lv_iload_n hx hb dJ2_remove_20 rfl (lv_at hl 3 rfl) ?_
  refine R_callVL (As := [.ref ed, .int (nI 0)]) (rest := []) (C := RJ2) ⟨hx, hb, hml, hown, hts⟩ hS (fun _ h => h) (metJ2_fastRemove l (D := D) (cA := cA) (z0 := z0) (E := E) (al := al) (ed := ed) (n := n) (cap := cap) (f := f) hn) ALRV.blind (fun U hU hW => ⟨⟨by rw [hU]; exact ⟨⟨_, ha⟩, hed, hcap, hcap2⟩, va_K.moved hW.alike hK, hne⟩, fun i y h1 h2 => ⟨by rw [hU]; exact (hv i y h1 h2).1.warm hW, (hv i y h1 h2).2⟩⟩) (at_recv hK ha rfl) (cwV 2 hts (lw_V q821 q823 qs8 q108 q824) rfl rfl rfl (by decide +kernel) ⟨Nat.le_of_ble_eq_true rfl, Nat.le_of_ble_eq_true rfl⟩) rfl hl.1 rfl (Nat.le_of_ble_eq_true rfl) dJ2_remove_21 ⟨Nat.zero_le _, Nat.zero_le _⟩ (fun t H locs ht _ hB hk hS => ?_)
  subst ht
  refine lv_aload_n hx hb dJ2_remove_24 rfl (lv_at hl 0 rfl) ?_
  exact W.aret (v := .ref q0) hx hb hr (Or.inl ⟨_, rfl⟩) (Or.inr ⟨_, rfl⟩) (fun t ht _ => ⟨⟨(), q0, rfl, trivial, rfl, ALW.at hB ht⟩, hS.F ht⟩) hS.2.2 dJ2_remove_25 hlocks
