/-! 18.xw: System.arraycopy between cells; the forms of the writers' contracts, and their calls; State.like -/
section HC
variable {p : Program} {l : Launch} {e : Env} {R : Room} {s : State} {m : MethodId} {args : Array Value} {below : List Frame} {meth : Method} {c : Code} {H : Heap} {locs : List Loc} {cells slots : Nat} {Q : State → Prop}
variable {cc : ByteArray} {pc : Nat} {ls : Array Slot} {rest : List Value} {A : Nat → Prop} {H0 : Heap} {D : va_G} {cl : List vw_C} {tys : List (ClassId × FieldType)} {a : Nat}
theorem h_copyi (hexec : p.tables.exec = Jvm.exec) (hb : c.code = cc) (hml : c.maxLocals = ls.size) {own : String} {index : Nat} (hown : s.vm.findClass own = some m.cls) (hlink : (Cond.methodLink own index arraycopyName).before args s = true) (hnat : (Cond.native arraycopyName).before args s = true) (hstat : (Cond.static arraycopyName).before args s = true) (hini : (Cond.initialized "java/lang/System").before args s = true)
    (hK : va_K D cl tys s) {a0 : Nat} {c0 c1 : ClassId} {n0 n1 : Nat} {f g : Nat → Int32} {ty : FieldType} (hc0 : va_at D cl (a0, .inl (c0, n0, .inl f)) H) (hc1 : va_at D cl (a, .inl (c1, n1, .inl g)) H) (hAa : A a) (hS : va_S A H0 H locs) (t0 t1 : Nat) (ht0 : tys[t0]? = some (c0, ty)) (ht1 : tys[t1]? = some (c1, ty)) (hprim : refKind ty = false)
    {sp dp n : Int32} (h1 : ¬ sp < 0) (h2 : ¬ dp < 0) (h3 : ¬ n < 0) (h4 : ix sp + ix n ≤ n0) (h5 : ix dp + ix n ≤ n1) (hfit : ∀ i, i < ix n → fits ty (.int (f (ix sp + i))) = true)
    (hframes : 1 ≤ R.frames) (hlocals : (rest.map fun v => v.category).sum + (nativeFrameWords "java/lang/System" "arraycopy" 5 + 11) ≤ R.locals) (hdg : decode cc pc = .ok (.invokestatic index, 3))
    (kk : ∀ (H1 : Heap) (locs1 : List Loc), va_at D cl (a, .inl (c1, n1, .inl (va_cpy f g (ix sp) (ix dp) (ix n)))) H1 → (∀ q, q ≠ a → H1[q]? = H[q]?) → H1.size = H.size → va_S A H0 H1 locs1 → W p l e R s m args below meth c H1 locs1 cells slots Q (F0 m (pc + 3) ls rest)) : W p l e R s m args below meth c H locs cells slots Q (F0 m pc ls (.int n :: .int dp :: .ref a :: .int sp :: .ref a0 :: rest)) := by
  have nn : ∀ z : Int32, ¬ z < 0 → z.toInt = (z.toNatClampNeg : Int) := by
    intro z hz
    have hz0 : (0 : Int) ≤ z.toInt := by
      have := Int32.not_lt.mp hz
      simpa using Int32.le_iff_toInt_le.mp this
    show z.toInt = ((z.toInt.toNat : Nat) : Int)
    omega
  unfold ix at h4 h5 hfit kk
  intro T hT X
  have hc0 : H[a0]? = some (vp_cell c0 (n0, .inl f)) := hc0
  have hc1 : H[a]? = some (vp_cell c1 (n1, .inl g)) := hc1
  obtain ⟨-, k0, hk0, cm0, hkk0⟩ := (hK.2 t0 _ ht0).1 n0 (fun j => .int (f j))
  obtain ⟨-, k1, hk1, cm1, hkk1⟩ := (hK.2 t1 _ ht1).1 n1 (fun j => .int (g j))
  obtain ⟨vm', X', step⟩ := X.arraycopy hexec hown hlink hnat hstat hini (src := a0) (dst := a) (cs := vp_cell c0 (n0, .inl f)) (cd := vp_cell c1 (n1, .inl g)) (srcPos := sp) (destPos := dp) (n := n) (by rw [hT]; exact hc0) (by rw [hT]; exact hc1)
    (fun _ h => by cases h) (fun _ h => by cases h) (fun h => by cases h) (fun h => by cases h) hk0 hk1 hkk0 hkk1 (by simp [hprim]) h1 h2 h3
    (by rw [nn sp h1, nn n h3]; show ¬ _ > ((arrV c0 n0 (fun j => .int (f j))).slots.size : Int); rw [arrV_size]; omega)
    (by rw [nn dp h2, nn n h3]; show ¬ _ > ((arrV c1 n1 (fun j => .int (g j))).slots.size : Int); rw [arrV_size]; omega)
    (fun vm₁ _ i hi => by
      have e : (vp_cell c0 (n0, .inl f)).slots.getD (sp.toNatClampNeg + i) .null = .int (f (sp.toNatClampNeg + i)) := by
        show (arrV c0 n0 (fun j => .int (f j))).slots.getD _ _ = _
        rw [Array.getD_eq_getD_getElem?, arrV_read _ _ (by omega)]
        rfl
      refine ⟨?_, ?_⟩
      · rw [e]
        exact hfit i hi
      · rw [e]
        exact trivial)
    (g := F0 m pc ls (.int n :: .int dp :: .ref a :: .int sp :: .ref a0 :: rest)) rfl (by rw [hml]) (rest := rest) rfl (by rw [hb]; exact hdg) hframes (by show 2 * 0 + _ + _ ≤ _; omega)
  have e1 : copied (vp_cell c0 (n0, .inl f)) (vp_cell c1 (n1, .inl g)) sp dp n = vp_cell c1 (n1, .inl (va_cpy f g sp.toNatClampNeg dp.toNatClampNeg n.toNatClampNeg)) := va_copied (fun z => .int z) c0 c1 f g h4
  rw [e1] at X' step
  have hl : a < H.size := (Array.getElem?_eq_some_iff.mp hc1).1
  have hheap : ((T.setVm vm').setCell a (vp_cell c1 (n1, .inl (va_cpy f g sp.toNatClampNeg dp.toNatClampNeg n.toNatClampNeg)))).heap = H.setIfInBounds a (vp_cell c1 (n1, .inl (va_cpy f g sp.toNatClampNeg dp.toNatClampNeg n.toNatClampNeg))) := by rw [← hT]; rfl
  have oq : ∀ q : Nat, q ≠ a → (H.setIfInBounds a (vp_cell c1 (n1, .inl (va_cpy f g sp.toNatClampNeg dp.toNatClampNeg n.toNatClampNeg))))[q]? = H[q]? := fun q hq => by simp [Array.getElem?_setIfInBounds, Ne.symm hq]
  obtain ⟨t, a1, b1⟩ := kk _ _ (show (H.setIfInBounds a _)[a]? = some _ by simp [Array.getElem?_setIfInBounds, hl]) oq (by simp) ⟨by simp; exact hS.1, fun q g1 g2 => by
      rw [oq q (fun e => g2 (by rw [e]; exact hAa))]
      exact hS.2.1 q g1 g2, fun q hq => by
      rcases List.mem_append.mp hq with h | h
      · exact hS.2.2 q h
      · obtain ⟨z, -, hz⟩ := List.mem_map.mp h
        rw [← hz]
        exact hAa⟩ _ hheap X'
  exact ⟨t, step t a1, b1⟩
end HC
/-! contracts of a state's writers -/
def PhSw (D : va_G) (cA : Nat → ClassId) (z0 : Nat) (E : Nat → Nat → Nat) (T : TT) (tw : Nat → Nat) (vo : Nat) (N : Nat → Prop) (sa : Nat → Nat) (h : Mem) (U : State) : Prop := SW D cA sa h U.heap ∧ SJ z0 sa ∧ (∀ q, N q → ¬ SA sa q) ∧ PhT D cA z0 E T tw vo N U
theorem PhSw.blind {D : va_G} {cA : Nat → ClassId} {z0 : Nat} {E : Nat → Nat → Nat} {T : TT} {tw : Nat → Nat} {vo : Nat} {N : Nat → Prop} {sa : Nat → Nat} {h : Mem} : Blind (PhSw D cA z0 E T tw vo N sa h) := fun U g mk a h => ⟨h.1, h.2.1, h.2.2.1, PhT.blind U g mk a h.2.2.2⟩
abbrev MeSV (l : Launch) (D : va_G) (cA : Nat → ClassId) (z0 : Nat) (E : Nat → Nat → Nat) (T : TT) (tw : Nat → Nat) (vo : Nat) (N : Nat → Prop) (sa : Nat → Nat) (y : MethodName) (ws : List Cond) (rm : Room) (av : List Value) (h : Mem) (post : Mem → Prop) : Prop := Met l y ws rm (va_Pc av (PhSw D cA z0 E T tw vo N sa h)) (va_Qv post (fun h' t => SW D cA sa h' t.heap) (SA sa)) 0 0 (SA sa)
def JS (p : Program) (l : Launch) (e : Env) (R : Room) (s : State) (m : MethodId) (args : Array Value) (below : List Frame) (meth : Method) (c : Code) (Q : State → Prop) (D : va_G) (cA : Nat → ClassId) (sa : Nat → Nat) (nL pc : Nat) (h : Mem) (lv : List (Nat × Value)) (st : List Value) : Prop :=
  ∀ (H : Heap) (locs : List Loc) (ls : Array Slot), SW D cA sa h H → va_S (SA sa) s.heap H locs → lv_has ls nL lv → W p l e R s m args below meth c H locs 0 0 Q (F0 m pc ls st)
/-! contracts of the component's writers that don't throw and make nothing -/
def PhXw (D : va_G) (cA : Nat → ClassId) (z0 : Nat) (E : Nat → Nat → Nat) (T : TT) (tw : Nat → Nat) (N : Nat → Prop) (ad : Nat → Nat) (h : Mem) (U : State) : Prop := XW D cA ad (tw 9) h U.heap ∧ XJ z0 ad ∧ (∀ q, N q → ¬ XA ad q) ∧ PhT D cA z0 E T tw (ad 70) N U
theorem PhXw.blind {D : va_G} {cA : Nat → ClassId} {z0 : Nat} {E : Nat → Nat → Nat} {T : TT} {tw : Nat → Nat} {N : Nat → Prop} {ad : Nat → Nat} {h : Mem} : Blind (PhXw D cA z0 E T tw N ad h) := fun U g mk a h => ⟨h.1, h.2.1, h.2.2.1, PhT.blind U g mk a h.2.2.2⟩
abbrev XQi (D : va_G) (cA : Nat → ClassId) (tw ad : Nat → Nat) (post : Int32 → Mem → Prop) : Array Value → State → Outcome → State → Prop := va_Qi post (fun h' t => XW D cA ad (tw 9) h' t.heap) (XA ad)
abbrev XQz (D : va_G) (cA : Nat → ClassId) (tw ad : Nat → Nat) (post : Bool → Mem → Prop) : Array Value → State → Outcome → State → Prop := va_Qi (fun r h' => ∃ b : Bool, r = b2i b ∧ post b h') (fun h' t => XW D cA ad (tw 9) h' t.heap) (XA ad)
abbrev XQv (D : va_G) (cA : Nat → ClassId) (tw ad : Nat → Nat) (post : Mem → Prop) : Array Value → State → Outcome → State → Prop := va_Qv post (fun h' t => XW D cA ad (tw 9) h' t.heap) (XA ad)
abbrev MeXI (l : Launch) (D : va_G) (cA : Nat → ClassId) (z0 : Nat) (E : Nat → Nat → Nat) (T : TT) (tw : Nat → Nat) (N : Nat → Prop) (ad : Nat → Nat) (y : MethodName) (ws : List Cond) (rm : Room) (av : List Value) (h : Mem) (post : Int32 → Mem → Prop) : Prop := Met l y ws rm (va_Pc av (PhXw D cA z0 E T tw N ad h)) (XQi D cA tw ad post) 0 0 (XA ad)
abbrev MeXZ (l : Launch) (D : va_G) (cA : Nat → ClassId) (z0 : Nat) (E : Nat → Nat → Nat) (T : TT) (tw : Nat → Nat) (N : Nat → Prop) (ad : Nat → Nat) (y : MethodName) (ws : List Cond) (rm : Room) (av : List Value) (h : Mem) (post : Bool → Mem → Prop) : Prop := Met l y ws rm (va_Pc av (PhXw D cA z0 E T tw N ad h)) (XQz D cA tw ad post) 0 0 (XA ad)
abbrev MeXV (l : Launch) (D : va_G) (cA : Nat → ClassId) (z0 : Nat) (E : Nat → Nat → Nat) (T : TT) (tw : Nat → Nat) (N : Nat → Prop) (ad : Nat → Nat) (y : MethodName) (ws : List Cond) (rm : Room) (av : List Value) (h : Mem) (post : Mem → Prop) : Prop := Met l y ws rm (va_Pc av (PhXw D cA z0 E T tw N ad h)) (XQv D cA tw ad post) 0 0 (XA ad)
def JX (p : Program) (l : Launch) (e : Env) (R : Room) (s : State) (m : MethodId) (args : Array Value) (below : List Frame) (meth : Method) (c : Code) (Q : State → Prop) (D : va_G) (cA : Nat → ClassId) (tw ad : Nat → Nat) (nL pc : Nat) (h : Mem) (lv : List (Nat × Value)) (st : List Value) : Prop :=
  ∀ (H : Heap) (locs : List Loc) (ls : Array Slot), XW D cA ad (tw 9) h H → va_S (XA ad) s.heap H locs → lv_has ls nL lv → W p l e R s m args below meth c H locs 0 0 Q (F0 m pc ls st)
theorem spl_cases {i : Nat} (h : Spl i) : i = 0 ∨ i = 1 ∨ i = 2 ∨ i = 5 := by
  rcases h with h | h
  · match i, h with
    | 0, _ => exact Or.inl rfl
    | 1, _ => exact Or.inr (Or.inl rfl)
    | 2, _ => exact Or.inr (Or.inr (Or.inl rfl))
  · exact Or.inr (Or.inr (Or.inr h))
theorem xpl_st {k i : Nat} (hk : k = 40 ∨ k = 50) (h : Spl i) : Xpl (k + i) := by
  rcases hk with rfl | rfl <;> rcases spl_cases h with rfl | rfl | rfl | rfl
  · exact Or.inl rfl
  · exact Or.inl rfl
  · exact Or.inl rfl
  · exact Or.inr (Or.inr (Or.inr (Or.inl rfl)))
  · exact Or.inl rfl
  · exact Or.inl rfl
  · exact Or.inl rfl
  · exact Or.inr (Or.inr (Or.inr (Or.inr (Or.inl rfl))))
theorem XJ.st {z0 : Nat} {ad : Nat → Nat} (h : XJ z0 ad) {k : Nat} (hk : k = 40 ∨ k = 50) : SJ z0 (shf ad k) := by
  refine ⟨fun i j hi hj e => ?_, fun i hi => h.2 _ (xpl_st hk hi)⟩
  have := h.1 (k + i) (k + j) (xpl_st hk hi) (xpl_st hk hj) e
  omega
theorem XA.st {ad : Nat → Nat} {k : Nat} (hk : k = 40 ∨ k = 50) : ∀ q, SA (shf ad k) q → XA ad q := fun q ⟨i, h1, h2⟩ => ⟨k + i, xpl_st hk h1, h2⟩
theorem put5_in {u S : Mem} {k j : Nat} (h : j < 5) : put5 u k S (k + j) = S j := by
  unfold put5
  rw [if_pos ⟨by omega, by omega⟩, show k + j - k = j by omega]
theorem put5_out {u S : Mem} {k j : Nat} (h : j < k ∨ k + 5 ≤ j) : put5 u k S j = u j := by
  unfold put5
  rw [if_neg (by omega)]
/-- a state's part changed -/
theorem XW.pst {z0 : Nat} {D : va_G} {cA : Nat → ClassId} {ad : Nat → Nat} {ta : Nat} {u S : Mem} {H H1 : Heap} {k : Nat} (hk : k = 40 ∨ k = 50) (hJ : XJ z0 ad) (h : XW D cA ad ta u H) (hs : SW D cA (shf ad k) S H1) (oq : ∀ q, q < H.size → ¬ SA (shf ad k) q → H1[q]? = H[q]?) : XW D cA ad ta (put5 u k S) H1 := by
  have hn : ∀ j, Xpl j → (j < k ∨ k + 5 < j) → ¬ SA (shf ad k) (ad j) := fun j hj hlt ⟨i, hi, e⟩ => by
    have e2 := hJ.1 j (k + i) hj (xpl_st hk hi) e
    rcases spl_cases hi with rfl | rfl | rfl | rfl <;> omega
  have hkp : ∀ (j : Nat) (e : va_E), Xpl j → (j < k ∨ k + 5 < j) → va_at D vwCl (ad j, e) H → va_at D vwCl (ad j, e) H1 := fun j e hj hlt ha => ha.kept (oq _ ha.lt (hn j hj hlt))
  obtain ⟨h1, h2, h3, h4, h5, h6⟩ := h
  rcases hk with rfl | rfl
  · refine ⟨hkp 17 _ (Or.inr (Or.inl rfl)) (by omega) h1, hkp 31 _ (Or.inr (Or.inr (Or.inl rfl))) (by omega) h2, hs.1, hkp 55 _ (Or.inr (Or.inr (Or.inr (Or.inr (Or.inl rfl))))) (by omega) h4, hkp 6 _ (Or.inr (Or.inr (Or.inr (Or.inr (Or.inr rfl))))) (by omega) h5, fun j hj => ?_⟩
    by_cases hq : 40 ≤ j ∧ j < 45
    · match j, hj, hq with
      | 40, _, _ => exact hs.2 0 rfl
      | 41, _, _ => exact hs.2 1 rfl
      | 42, _, _ => exact hs.2 2 rfl
      | 43, hj, _ => exact absurd hj (by decide)
      | 44, hj, _ => exact absurd hj (by decide)
      | j + 45, _, hq => omega
    · rw [put5_out (by omega)]
      exact hkp j _ (Or.inl hj) (by have := Xarr_45 hj; omega) (h6 j hj)
  · refine ⟨hkp 17 _ (Or.inr (Or.inl rfl)) (by omega) h1, hkp 31 _ (Or.inr (Or.inr (Or.inl rfl))) (by omega) h2, hkp 45 _ (Or.inr (Or.inr (Or.inr (Or.inl rfl)))) (by omega) h3, hs.1, hkp 6 _ (Or.inr (Or.inr (Or.inr (Or.inr (Or.inr rfl))))) (by omega) h5, fun j hj => ?_⟩
    by_cases hq : 50 ≤ j ∧ j < 55
    · match j, hj, hq with
      | 50, _, _ => exact hs.2 0 rfl
      | 51, _, _ => exact hs.2 1 rfl
      | 52, _, _ => exact hs.2 2 rfl
      | 53, hj, _ => exact absurd hj (by decide)
      | 54, hj, _ => exact absurd hj (by decide)
      | j + 55, _, hq => omega
    · rw [put5_out (by omega)]
      exact hkp j _ (Or.inl hj) (by have := Xarr_55 hj; omega) (h6 j hj)
section XWR
variable {p : Program} {l : Launch} {e : Env} {R : Room} {s : State} {m : MethodId} {args : Array Value} {below : List Frame} {meth : Method} {c : Code} {H : Heap} {locs : List Loc} {cells slots : Nat} {Q : State → Prop}
variable {cc : ByteArray} {pc nL : Nat} {ls : Array Slot} {rest st0 : List Value} {A : Nat → Prop} {D : va_G} {cA : Nat → ClassId} {E : Nat → Nat → Nat} {T : TT} {tw : Nat → Nat} {vo z0 : Nat} {N : Nat → Prop} {own : String} {index n maxL : Nat} {sa ad : Nat → Nat} {h : Mem}
variable {y : MethodName} {bytes : ByteArray} {ret : Option FieldType} {ws : List Cond} {rm : Room} {As : List Value}
theorem S_vret (hx : p.tables.exec = Jvm.exec) (hb : c.code = cc) (hr : meth.sig.returnType = none) (hlocks : meth.locks = false) {post : Mem → Prop} (hM : SW D cA sa h H) (hS : va_S (SA sa) s.heap H locs) (hw : post h) (hdg : decode cc pc = .ok (.return_, 1)) : W p l e R s m args below meth c H locs cells slots (MQ below (va_Qv post (fun h' t => SW D cA sa h' t.heap) (SA sa)) args s cells slots (SA sa)) (F0 m pc ls []) :=
  W.vret hx hb hr (fun t ht _ => ⟨⟨h, rfl, hw, hM.at ht⟩, hS.F ht⟩) hS.2.2 hdg hlocks
theorem X_vret (hx : p.tables.exec = Jvm.exec) (hb : c.code = cc) (hr : meth.sig.returnType = none) (hlocks : meth.locks = false) {post : Mem → Prop} (hM : XW D cA ad (tw 9) h H) (hS : va_S (XA ad) s.heap H locs) (hw : post h) (hdg : decode cc pc = .ok (.return_, 1)) : W p l e R s m args below meth c H locs cells slots (MQ below (XQv D cA tw ad post) args s cells slots (XA ad)) (F0 m pc ls []) :=
  W.vret hx hb hr (fun t ht _ => ⟨⟨h, rfl, hw, hM.at ht⟩, hS.F ht⟩) hS.2.2 hdg hlocks
theorem X_iret (hx : p.tables.exec = Jvm.exec) (hb : c.code = cc) (hr : meth.sig.returnType = some .int) (hlocks : meth.locks = false) {post : Int32 → Mem → Prop} {v : Int32} (hM : XW D cA ad (tw 9) h H) (hS : va_S (XA ad) s.heap H locs) (hw : post v h) (hdg : decode cc pc = .ok (.ireturn, 1)) : W p l e R s m args below meth c H locs cells slots (MQ below (XQi D cA tw ad post) args s cells slots (XA ad)) (F0 m pc ls [.int v]) :=
  W.iret hx hb hr (fun t ht _ => ⟨⟨v, h, rfl, hw, hM.at ht⟩, hS.F ht⟩) hS.2.2 hdg hlocks
theorem X_zret (hx : p.tables.exec = Jvm.exec) (hb : c.code = cc) (hr : meth.sig.returnType = some .boolean) (hlocks : meth.locks = false) {post : Bool → Mem → Prop} {v : Int32} (hM : XW D cA ad (tw 9) h H) (hS : va_S (XA ad) s.heap H locs) (hw : ∃ b, v = b2i b ∧ post b h) (hdg : decode cc pc = .ok (.ireturn, 1)) : W p l e R s m args below meth c H locs cells slots (MQ below (XQz D cA tw ad post) args s cells slots (XA ad)) (F0 m pc ls [.int v]) := by
  obtain ⟨b, rfl, hw⟩ := hw
  exact W.zret hx hb hr (by cases b <;> rfl) (fun t ht _ => ⟨⟨_, h, rfl, ⟨b, rfl, hw⟩, hM.at ht⟩, hS.F ht⟩) hS.2.2 hdg hlocks
/-- a state's writer, from another of the same state's -/
theorem SS_callV (S : CallFix p m c cc nL s args lw_all own) (hK : KK D cA s) (hZ : FZ z0 E s s.heap) (hT : TW D cA E T tw vo N s.heap) (hN : ∀ q, N q → ¬ SA sa q) (hM : SW D cA sa h H) (hJ : SJ z0 sa) (hS : va_S (SA sa) s.heap H locs) {post : Mem → Prop} (met : MeSV l D cA z0 E T tw vo N sa y ws rm (.ref (sa 5) :: As) h post) (cw : CallW R s args own RX6 index y bytes maxL ret ws rm 0 0 n) (hn : As.length = n) (hsize : ls.size = nL) (hst : st0 = As.reverse ++ .ref (sa 5) :: rest) (hW : (rest.map fun v => v.category).sum ≤ 8) (hdg : decode cc pc = .ok (.invokevirtual index, 3)) (hc : cells ≤ R.cells ∧ slots ≤ R.slots)
    (kk : ∀ (h' : Mem) (H1 : Heap) (locs1 : List Loc), post h' → SW D cA sa h' H1 → va_S (SA sa) s.heap H1 locs1 → W p l e R s m args below meth c H1 locs1 cells slots Q (F0 m (pc + 3) ls rest)) : W p l e R s m args below meth c H locs cells slots Q (F0 m pc ls st0) :=
  va_callv (va_runV S met cw ⟨PhSw.blind.pc, hM.recv hK, fun U hU hW => ⟨rfl, by rw [hU]; exact hM, hJ, hN, PhT.go (hT.at hS (fun q h _ => hN q h)) hK hZ hS hJ.z hU hW⟩⟩ rfl hn hsize hst (lv_room hW) hdg hc) hS (fun _ _ h => h) (fun _ h => h) (fun u t H1 locs1 ht hvm hw hB hz hk hS1 => kk u H1 locs1 hw (ht ▸ hB) hS1)
/-- a state's writer, from the component; A: what the caller may change -/
theorem XS_callV (S : CallFix p m c cc nL s args lw_all own) (hK : KK D cA s) (hZ : FZ z0 E s s.heap) (hT : TW D cA E T tw (ad 70) N H) (hN : ∀ q, N q → ¬ XA ad q) (hA : ∀ q, XA ad q → A q) (hAz : ∀ q, A q → z0 ≤ q) (hM : XW D cA ad (tw 9) h H) (hJ : XJ z0 ad) (hS : va_S A s.heap H locs) (k : Nat) (hk : k = 40 ∨ k = 50) {post : Mem → Prop} (met : MeSV l D cA z0 E T tw (ad 70) N (shf ad k) y ws rm (.ref (ad (k + 5)) :: As) (sub h k) post) (cw : CallW R s args own RX6 index y bytes maxL ret ws rm 0 0 n) (hn : As.length = n) (hsize : ls.size = nL) (hst : st0 = As.reverse ++ .ref (ad (k + 5)) :: rest) (hW : (rest.map fun v => v.category).sum ≤ 8) (hdg : decode cc pc = .ok (.invokevirtual index, 3)) (hc : cells ≤ R.cells ∧ slots ≤ R.slots)
    (kk : ∀ (h' : Mem) (H1 : Heap) (locs1 : List Loc), post h' → XW D cA ad (tw 9) (put5 h k h') H1 → va_S A s.heap H1 locs1 → W p l e R s m args below meth c H1 locs1 cells slots Q (F0 m (pc + 3) ls rest)) : W p l e R s m args below meth c H locs cells slots Q (F0 m pc ls st0) :=
  va_callv (va_runV S met cw ⟨PhSw.blind.pc, (hM.st2 hk).recv hK, fun U hU hW => ⟨rfl, by rw [hU]; exact hM.st2 hk, hJ.st hk, fun q h1 h2 => hN q h1 (XA.st hk q h2), PhT.go hT hK hZ hS hAz hU hW⟩⟩ rfl hn hsize hst (lv_room hW) hdg hc) hS (fun q _ h => hA q (XA.st hk q h)) (fun q h => hA q (XA.st hk q h)) (fun u t H1 locs1 ht hvm hw hB hz hk1 hS1 => kk u H1 locs1 hw (hM.pst hk hJ (ht ▸ hB) hk1) hS1)
/-- a writer of the component's, from another; A: what the caller may change -/
theorem XX_callI (S : CallFix p m c cc nL s args lw_all own) (hK : KK D cA s) (hZ : FZ z0 E s s.heap) (hT : TW D cA E T tw (ad 70) N H) (hN : ∀ q, N q → ¬ XA ad q) (hA : ∀ q, XA ad q → A q) (hAz : ∀ q, A q → z0 ≤ q) (hM : XW D cA ad (tw 9) h H) (hJ : XJ z0 ad) (hS : va_S A s.heap H locs) {post : Int32 → Mem → Prop} (met : MeXI l D cA z0 E T tw N ad y ws rm (.ref (ad 17) :: As) h post) (cw : CallW R s args own RX1 index y bytes maxL ret ws rm 0 0 n) (hn : As.length = n) (hsize : ls.size = nL) (hst : st0 = As.reverse ++ .ref (ad 17) :: rest) (hW : (rest.map fun v => v.category).sum ≤ 8) (hdg : decode cc pc = .ok (.invokevirtual index, 3)) (hc : cells ≤ R.cells ∧ slots ≤ R.slots)
    (kk : ∀ (r : Int32) (h' : Mem) (H1 : Heap) (locs1 : List Loc), post r h' → XW D cA ad (tw 9) h' H1 → va_S A s.heap H1 locs1 → W p l e R s m args below meth c H1 locs1 cells slots Q (F0 m (pc + 3) ls (.int r :: rest))) : W p l e R s m args below meth c H locs cells slots Q (F0 m pc ls st0) :=
  va_calli (va_runV S met cw ⟨PhXw.blind.pc, hM.recv hK, fun U hU hW => ⟨rfl, by rw [hU]; exact hM, hJ, hN, PhT.go hT hK hZ hS hAz hU hW⟩⟩ rfl hn hsize hst (lv_room hW) hdg hc) hS (fun q _ h => hA q h) (fun q h => hA q h) (fun r u t H1 locs1 ht hvm hw hB hz hk hS1 => kk r u H1 locs1 hw (ht ▸ hB) hS1)
/-- a writer of the component's, from another; A: what the caller may change -/
theorem XX_callZ (S : CallFix p m c cc nL s args lw_all own) (hK : KK D cA s) (hZ : FZ z0 E s s.heap) (hT : TW D cA E T tw (ad 70) N H) (hN : ∀ q, N q → ¬ XA ad q) (hA : ∀ q, XA ad q → A q) (hAz : ∀ q, A q → z0 ≤ q) (hM : XW D cA ad (tw 9) h H) (hJ : XJ z0 ad) (hS : va_S A s.heap H locs) {post : Bool → Mem → Prop} (met : MeXZ l D cA z0 E T tw N ad y ws rm (.ref (ad 17) :: As) h post) (cw : CallW R s args own RX1 index y bytes maxL ret ws rm 0 0 n) (hn : As.length = n) (hsize : ls.size = nL) (hst : st0 = As.reverse ++ .ref (ad 17) :: rest) (hW : (rest.map fun v => v.category).sum ≤ 8) (hdg : decode cc pc = .ok (.invokevirtual index, 3)) (hc : cells ≤ R.cells ∧ slots ≤ R.slots)
    (kk : ∀ (r : Bool) (h' : Mem) (H1 : Heap) (locs1 : List Loc), post r h' → XW D cA ad (tw 9) h' H1 → va_S A s.heap H1 locs1 → W p l e R s m args below meth c H1 locs1 cells slots Q (F0 m (pc + 3) ls (.int (b2i r) :: rest))) : W p l e R s m args below meth c H locs cells slots Q (F0 m pc ls st0) :=
  va_calli (va_runV S met cw ⟨PhXw.blind.pc, hM.recv hK, fun U hU hW => ⟨rfl, by rw [hU]; exact hM, hJ, hN, PhT.go hT hK hZ hS hAz hU hW⟩⟩ rfl hn hsize hst (lv_room hW) hdg hc) hS (fun q _ h => hA q h) (fun q h => hA q h) (fun r u t H1 locs1 ht hvm hw hB hz hk hS1 => by obtain ⟨b, rfl, hw⟩ := hw; exact kk b u H1 locs1 hw (ht ▸ hB) hS1)
/-- a writer of the component's, from another; A: what the caller may change -/
theorem XX_callV (S : CallFix p m c cc nL s args lw_all own) (hK : KK D cA s) (hZ : FZ z0 E s s.heap) (hT : TW D cA E T tw (ad 70) N H) (hN : ∀ q, N q → ¬ XA ad q) (hA : ∀ q, XA ad q → A q) (hAz : ∀ q, A q → z0 ≤ q) (hM : XW D cA ad (tw 9) h H) (hJ : XJ z0 ad) (hS : va_S A s.heap H locs) {post : Mem → Prop} (met : MeXV l D cA z0 E T tw N ad y ws rm (.ref (ad 17) :: As) h post) (cw : CallW R s args own RX1 index y bytes maxL ret ws rm 0 0 n) (hn : As.length = n) (hsize : ls.size = nL) (hst : st0 = As.reverse ++ .ref (ad 17) :: rest) (hW : (rest.map fun v => v.category).sum ≤ 8) (hdg : decode cc pc = .ok (.invokevirtual index, 3)) (hc : cells ≤ R.cells ∧ slots ≤ R.slots)
    (kk : ∀ (h' : Mem) (H1 : Heap) (locs1 : List Loc), post h' → XW D cA ad (tw 9) h' H1 → va_S A s.heap H1 locs1 → W p l e R s m args below meth c H1 locs1 cells slots Q (F0 m (pc + 3) ls rest)) : W p l e R s m args below meth c H locs cells slots Q (F0 m pc ls st0) :=
  va_callv (va_runV S met cw ⟨PhXw.blind.pc, hM.recv hK, fun U hU hW => ⟨rfl, by rw [hU]; exact hM, hJ, hN, PhT.go hT hK hZ hS hAz hU hW⟩⟩ rfl hn hsize hst (lv_room hW) hdg hc) hS (fun q _ h => hA q h) (fun q h => hA q h) (fun u t H1 locs1 ht hvm hw hB hz hk hS1 => kk u H1 locs1 hw (ht ▸ hB) hS1)
end XWR
