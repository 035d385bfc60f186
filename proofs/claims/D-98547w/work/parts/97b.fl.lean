/-! 97b.fl, printed by tools/mk_fl.py: Fault.<init>; the law of its super constructor follows vx_ctorMade0 of the kit's EXCEPTIONS -/
def flW : List Cond := Bundle.throwableAtoms ++ (Bundle.chain0Atoms "java/lang/Exception" [] ++ [.methodLink RX9 1 (Bundle.init0 "java/lang/Exception"), .instantiable RX9 8, .selects RX9 Bundle.tFill0 Bundle.tFill0, .selects RX9 Bundle.tFill Bundle.tFill, .lays RX9 Bundle.tN "cause" "Ljava/lang/Throwable;", .lays RX9 Bundle.tN "stackTrace" Bundle.steD, .lays RX9 Bundle.tN "suppressedExceptions" Bundle.listD, .lays RX9 Bundle.tN "detailMessage" "Ljava/lang/String;", .isRef (.static Bundle.tN "UNASSIGNED_STACK" Bundle.steD), .isRef (.static Bundle.tN "SUPPRESSED_SENTINEL" Bundle.listD), .fieldLink Bundle.tN 198 Bundle.tN "backtrace" "Ljava/lang/Object;", .lays Bundle.tN Bundle.tN "backtrace" "Ljava/lang/Object;", .lays RX9 Bundle.tN "backtrace" "Ljava/lang/Object;"])
theorem stand_super9 {p : Program} {l : Launch} {e : Env} {R : Room} {s : State} {m₀ : MethodId} {args : Array Value} {below : List Frame} {meth : Method} {c : Code} {W : State} {cells slots : Nat} (X : Stand p l e R s m₀ args below meth c W [] cells slots) (hexec : p.tables.exec = Jvm.exec) (htr : e.platform.stackTraces = false)
    (hown : s.vm.findClass RX9 = some m₀.cls) (h : ∀ a ∈ flW, a.before args s = true)
    {a : Addr} {cX : ClassId} {kX : Class} (hfoundX : s.vm.findClass RX9 = some cX) (hkX : s.vm.classes[cX]? = some kX) (hcell : W.heap[a]? = some (freshCell cX kX)) (hcell0 : s.heap[a]? = some (freshCell cX kX))
    {g : JFrame} (hg : g.method = m₀) (hsize : g.locals.size = c.maxLocals) {rest : List Value} (hstack : g.stack = .ref a :: rest)
    (hd6 : decode c.code g.pc = .ok (.invokespecial 1, 3))
    (hRframes : 3 < R.frames) (hRlocals : 2 * g.monitorRoom + (rest.map fun v => v.category).sum + 54 ≤ R.locals) :
    ∃ (V : State) (ce : Cell) (L : List Loc), Stand p l e R s m₀ args below meth c (V.setCell a ce) L cells slots ∧ (∀ y ∈ L, y.base = a) ∧ V.heap = W.heap ∧ ce.cls = cX ∧ ce.vm = .none ∧ ce.slots.size = kX.instanceTypes.size ∧
      ∀ target, Steps p.tables e below ((V.setCell a ce).setTop { g with stack := rest, pc := g.pc + 3 }) target → Steps p.tables e below (W.setTop g) target := by
  have hfin : e.platform.finalization = false := by rw [X.admits.platform]
  have howns : e.platform.frameOwnsMonitors = true := by rw [X.admits.platform]
  have hpl : e.platform.magicAccessors = ({} : Platform).magicAccessors := by rw [X.admits.platform]
  have a' : ∀ x, x ∈ flW → x.holds args s none s [] = true := fun x hx => h x hx
  obtain ⟨T, Z, L, LZ, Y⟩ := ThrowableC.of_atoms (args := args) howns hfin hpl (fun x hx => h x (by simp [flW, hx]))
  obtain ⟨P1, Ps, hlen, L1, hL, hP1m, hlink1, hlink⟩ := Bundle.chain0 (args := args) hpl Y.init0 [] "java/lang/Exception" (by decide +kernel) (fun n hn => nomatch hn) (fun x hx => h x (by simp [flW, hx]))
  obtain ⟨c1, kX', hc1, hk, hord, -, -, hn6⟩ := Cond.instantiable_spec (a' (.instantiable RX9 8) (by simp [flW]))
  have e1 : c1 = cX := Option.some.inj (hc1.symm.trans hfoundX)
  subst e1
  have e2 : kX' = kX := Option.some.inj (hk.symm.trans hkX)
  subst e2
  have hsel0 : selectMethod e.platform s.vm c1 T.fill0 = .method T.fill0 := by
    obtain ⟨c2, r2, m2, q1, q2, q3, q4, -⟩ := Cond.selects_spec (a' (.selects RX9 Bundle.tFill0 Bundle.tFill0) (by simp [flW]))
    cases Option.some.inj (q1.symm.trans hc1)
    cases Option.some.inj (q2.symm.trans (State.methodFound?_of_named Y.fill0 (by decide)))
    cases Option.some.inj (q3.symm.trans Y.fill0)
    rw [Launch.admits_selectMethod X.admits]; exact q4
  have hselF : selectMethod e.platform s.vm c1 T.fill = .method T.fill := by
    obtain ⟨c2, r2, m2, q1, q2, q3, q4, -⟩ := Cond.selects_spec (a' (.selects RX9 Bundle.tFill Bundle.tFill) (by simp [flW]))
    cases Option.some.inj (q1.symm.trans hc1)
    cases Option.some.inj (q2.symm.trans (State.methodFound?_of_named Y.fill (by decide)))
    cases Option.some.inj (q3.symm.trans Y.fill)
    rw [Launch.admits_selectMethod X.admits]; exact q4
  obtain ⟨cellS0, hcS0, hiss⟩ := Y.statics
  obtain ⟨u0, hu0⟩ := Cond.staticRefV Y.unassigned L.unassignedStatic L.statics hcS0 hiss (a' (.isRef (.static Bundle.tN "UNASSIGNED_STACK" Bundle.steD)) (by simp [flW]))
  obtain ⟨sen, hsen⟩ := Cond.staticRefV Y.sentinel L.sentinelStatic L.statics hcS0 hiss (a' (.isRef (.static Bundle.tN "SUPPRESSED_SENTINEL" Bundle.listD)) (by simp [flW]))
  obtain ⟨ci198, i198, fB, hk198, hg198, ha198, hsB, -, hnB, htB, hffB⟩ := Cond.ownField (t := .object "java/lang/Object") Y.found L.cls (by decide +kernel) (a' (.fieldLink Bundle.tN 198 Bundle.tN "backtrace" "Ljava/lang/Object;") (by simp [flW])) (a' (.lays Bundle.tN Bundle.tN "backtrace" "Ljava/lang/Object;") (by simp [flW])) e.platform hpl
  obtain ⟨cellS, hcS', heS, -, hkeep⟩ := X.same.2.2.2.2.2 T.aS cellS0 hcS0
  have hcellS : W.heap[T.aS]? = some cellS := hcS'
  have hout' : ∀ i, (⟨T.aS, i⟩ : Loc) ∉ ([] : List Loc) := fun i hmem => nomatch hmem
  have hknownS : cellS.vm ≠ .unknown := by
    rw [heS]; intro hu
    rw [show cellS0.vm = .unknown from hu] at hiss
    cases hiss
  have hneS : T.aS ≠ a := fun e9 => by
    rw [e9, hcell0] at hcS0
    cases hcS0
    cases hiss
  obtain ⟨iM, hffM⟩ := Y.msg
  obtain ⟨tyC, dC, hdC, hdnC⟩ := Cond.laysAt hc1 hk Y.cause (a' (.lays RX9 Bundle.tN "cause" "Ljava/lang/Throwable;") (by simp [flW]))
  obtain ⟨tyS, dS, hdS, hdnS⟩ := Cond.laysAt hc1 hk Y.stack (a' (.lays RX9 Bundle.tN "stackTrace" Bundle.steD) (by simp [flW]))
  obtain ⟨tyP, dP, hdP, hdnP⟩ := Cond.laysAt hc1 hk Y.supp (a' (.lays RX9 Bundle.tN "suppressedExceptions" Bundle.listD) (by simp [flW]))
  obtain ⟨tyM, dM, hdM, hdnM⟩ := Cond.laysAt hc1 hk hffM (a' (.lays RX9 Bundle.tN "detailMessage" "Ljava/lang/String;") (by simp [flW]))
  obtain ⟨tyB, dB, hdB, hdnB⟩ := Cond.laysAt hc1 hk hffB (a' (.lays RX9 Bundle.tN "backtrace" "Ljava/lang/Object;") (by simp [flW]))
  have bC := Cond.laysApart hdB hdC hdnB hdnC (by rw [hnB, Y.causeName]; decide)
  have bS := Cond.laysApart hdB hdS hdnB hdnS (by rw [hnB, Y.stackName]; decide)
  have bP := Cond.laysApart hdB hdP hdnB hdnP (by rw [hnB, Y.suppName]; decide)
  have hskip : SkipFacts T e.platform s (fun u => u) u0 ((preparedCellV T.toThrowableT (freshCell c1 kX') a u0 sen).withEntry W.cur) :=
    ⟨{ ci198 := ci198, i198 := i198, fBack := fB }, ⟨hk198, hg198, ha198, hsB⟩, by
      have := fresh_default (c := c1) tyB
      rw [htB] at this
      simpa [preparedCellV, Cell.setSlot, Cell.withEntry, Array.getElem?_setIfInBounds, bC, bS, bP, bC.symm, bS.symm, bP.symm, defaultValue] using this, fun _ _ => rfl⟩
  obtain ⟨tm, methC, cdC, kC, vm₁, hnC, -, -, -, -, -, -, -, hW₁, st1⟩ := Steps.initCold (tb := p.tables) (e := e) (below := below) (s := s) (U := W) X.here hexec X.warmed hpl hown (t := Bundle.init0 "java/lang/Exception") rfl rfl (by decide)
    (a' (.methodLink RX9 1 (Bundle.init0 "java/lang/Exception")) (by simp [flW])) (h (.instanceMethod (Bundle.init0 "java/lang/Exception")) (by simp [flW, Bundle.chain0Atoms, Bundle.passAtoms])) (bytes := Bundle.five) (maxL := 1) (h (.code (Bundle.init0 "java/lang/Exception") Bundle.five 1 none) (by simp [flW, Bundle.chain0Atoms, Bundle.passAtoms]))
    (f := g) hg (a := a) (rest := rest) hstack hd6
  cases Option.some.inj (hnC.symm.trans hP1m)
  have X₁ := X.noted hW₁
  obtain ⟨vm₂, X₂, st2⟩ := X₁.ctorPlainOffV hexec (g := { g with stack := rest }) hg hsize T L Z LZ (P1 :: Ps)
    (fun P hP => by rcases List.mem_cons.mp hP with rfl | hP; exact L1; exact hL P hP) ⟨hlink1, hlink⟩ (u0 := u0) (sen := sen) (self := a) (cell := freshCell c1 kX') (cellS := cellS)
    hcell (fun _ => by simp) (by simp) rfl rfl hsel0 hselF hcellS hneS hknownS (by rw [hkeep _ (hout' _)]; exact hu0) (by rw [hkeep _ (hout' _)]; exact hsen)
    (Takes.of_laid hk hord tyC (by rw [Y.causeType]; rfl)) (Takes.of_laid hk hord tyS (by rw [Y.stackType]; exact fits_refV_array _ u0)) (Takes.of_laid hk hord tyP (by rw [Y.suppType]; exact fits_refV_object _ sen)) Y.objLocals hskip htr [] hd6
    (by simp only [List.length_cons, hlen, List.length_nil]; omega) (by simp only [List.length_cons, hlen, List.length_nil]; exact hRlocals)
  refine ⟨(W.setVm vm₁).setVm vm₂, _, _, X₂, fun y hy => ?_, rfl, rfl, rfl, by simp [preparedCellV, Cell.setSlot], fun target hwalk => st1 _ (fun acts => ?_)⟩
  · simp only [List.nil_append, List.mem_cons, List.not_mem_nil, or_false] at hy
    rcases hy with rfl | rfl | rfl | rfl <;> rfl
  · rw [doInvoke_state]
    exact st2 _ hwalk
section FLW
variable {p : Program} {l : Launch} {e : Env} {R : Room} {s : State} {m : MethodId} {args : Array Value} {below : List Frame} {meth : Method} {c : Code} {H : Heap} {locs : List Loc} {cells slots : Nat} {Q : State → Prop}
variable {cc : ByteArray} {pc nL : Nat} {ls : Array Slot} {rest st0 : List Value} {A A0 : Nat → Prop} {H0 : Heap} {D : va_G} {cA : Nat → ClassId} {a : Nat} {z0 : Nat} {E : Nat → Nat → Nat}
/-- a Fault as new makes it -/
def NewF (D : va_G) (s : State) (H : Heap) (a : Nat) : Prop := ∃ kX : Class, s.vm.classes[D.1 7]? = some kX ∧ H[a]? = some (freshCell (D.1 7) kX)
theorem flW_ok (hts : ∀ w ∈ lw_all, w.before args s = true) (hZ : FZ z0 E s s.heap) : ∀ w ∈ flW, w.before args s = true := by
  refine vx_own ?_ ?_ ?_ ?_ ?_
  · exact vx_hat (fun w hw => hts w (lw_in _ [109, 198, 207, 211, 214, 216, 199, 200, 152, 153, 201, 206, 212, 452, 188, 453, 190, 454, 192, 202, 204, 194, 1000, 1001, 1002, 199, 1140, 1129, 1131, 209, 1132, 1133, 1134, 1135, 450, 196, 1136] (by decide +kernel) (by decide +kernel) w hw)) (by decide +kernel) (vx_c (hZ.2.1.nD 7 rfl) vx_n)
  · exact vx_isRefq hZ.1.2.2.2.2.1.1
  · exact vx_isRefq hZ.1.2.2.2.2.2.1.1
  · exact hZ.1.2.2.2.2.1.2.word
  · exact hZ.1.2.2.2.2.2.1.2.word
theorem h_super9 (hexec : p.tables.exec = Jvm.exec) (hb : c.code = cc) (hl : l.stackTraces = false) (hts : ∀ w ∈ lw_all, w.before args s = true) (hZ : FZ z0 E s s.heap) (hown : s.vm.findClass RX9 = some m.cls) (hK : KK D cA s) (hN : NewF D s s.heap a) (hsize : ls.size = c.maxLocals)
    (hRframes : 3 < R.frames) (hRlocals : (rest.map fun v => v.category).sum + 54 ≤ R.locals) (hdg : decode cc pc = .ok (.invokespecial 1, 3))
    (kk : ∀ (H1 : Heap) (locs1 : List Loc) (fs : List Value), fs.length = 8 → va_at D vwCl (a, .inr (7, fs)) H1 → (∀ q, q ≠ a → H1[q]? = s.heap[q]?) → H1.size = s.heap.size → va_S (ONE a) s.heap H1 locs1 → W p l e R s m args below meth c H1 locs1 cells slots Q (F0 m (pc + 3) ls rest)) : W p l e R s m args below meth c s.heap [] cells slots Q (F0 m pc ls (.ref a :: rest)) := by
  intro T hT X
  obtain ⟨kX, hk1, hk2⟩ := hN
  have htr : e.platform.stackTraces = false := (show e.platform.stackTraces = l.stackTraces by rw [X.admits.platform]).trans hl
  have hfc := (hK.1 7 (RX9, TX9, 8) rfl).2.1
  obtain ⟨V, ce, L, Z, hL, hV, hcl9, hvm9, hsz9, st⟩ := stand_super9 X hexec htr hown (flW_ok hts hZ) hfc hk1 (by rw [hT]; exact hk2) hk2 (g := F0 m pc ls (.ref a :: rest)) rfl hsize (rest := rest) rfl (by rw [hb]; exact hdg) hRframes (by show 2 * 0 + _ + 54 ≤ _; omega)
  have hlt : a < s.heap.size := (Array.getElem?_eq_some_iff.mp hk2).1
  have hH : (V.setCell a ce).heap = s.heap.setIfInBounds a ce := by rw [← hT, ← hV]; rfl
  have oq : ∀ q : Nat, q ≠ a → (s.heap.setIfInBounds a ce)[q]? = s.heap[q]? := fun q hq => by simp [Array.getElem?_setIfInBounds, Ne.symm hq]
  have hslot : ∀ k, k < 8 → D.2 7 k < kX.instanceTypes.size := by
    intro k hk
    obtain ⟨hS, hfc9, -⟩ := hK.1 7 (RX9, TX9, 8) rfl
    obtain ⟨cf, kf, fi, f, hi, hsl⟩ := hS k hk
    have h3 := (u_facts hfc9 hk1 (u_lays hts in_X9 hk) hi).2.2
    rw [hsl] at h3
    exact (Array.getElem?_eq_some_iff.mp h3).1
  have hat : va_at D vwCl (a, .inr (7, (List.range 8).map (fun k => (ce.slots[D.2 7 k]?).getD .null))) (s.heap.setIfInBounds a ce) := by
    refine ⟨(RX9, TX9, 8), rfl, ce, by simp [Array.getElem?_setIfInBounds, hlt], hcl9, hvm9, fun k hk => ?_⟩
    have h9 := hslot k hk
    rw [← hsz9] at h9
    have e3 : vp_V ((List.range 8).map (fun k => (ce.slots[D.2 7 k]?).getD .null)) k = (ce.slots[D.2 7 k]?).getD .null := by
      have hk : k < 8 := hk
      unfold vp_V
      rw [List.getD_eq_getElem?_getD, List.getElem?_map, List.getElem?_range hk]
      rfl
    rw [e3, Array.getElem?_eq_getElem h9]
    rfl
  obtain ⟨t, a1, b1⟩ := kk (s.heap.setIfInBounds a ce) L _ (by simp) hat oq (by simp) ⟨by simp, fun q h1 h2 => oq q h2, fun z hz => hL z hz⟩ _ hH Z
  exact ⟨t, st _ a1, b1⟩
theorem h_newF {c0 : Code} (hexec : p.tables.exec = Jvm.exec) (hb : c0.code = cc) (hts : ∀ w ∈ lw_all, w.before args s = true) {own : String} {index : Nat} (hown : s.vm.findClass own = some m.cls) (hcl : (Cond.classLink own index RX9).before args s = true)
    (hK : KK D cA s) (hS : va_S A H0 H locs) (hcells : cells + 1 ≤ R.cells) (hslots : slots + 8 ≤ R.slots) (hdg : decode cc pc = .ok (.new index, 3))
    (kk : ∀ (H1 : Heap), NewF D s H1 H.size → (∀ q, q < H.size → H1[q]? = H[q]?) → H1.size = H.size + 1 → va_S A H0 H1 locs →
      W p l e R s m args below meth c0 H1 locs (cells + 1) (slots + 8) Q (F0 m (pc + 3) ls (.ref H.size :: rest))) : W p l e R s m args below meth c0 H locs cells slots Q (F0 m pc ls rest) := by
  have hKn := hK.1 7 (RX9, TX9, 8) rfl
  refine W.newcK (C := RX9) (n := 8) hexec hb hown hcl (hts _ q1129) (hts _ q133) rfl hdg hcells hslots hKn.2.1 rfl fun H1 kC hkC e1 z1 o1 => ?_
  exact kk H1 ⟨kC, hkC, e1⟩ o1 z1 ⟨Nat.le_trans hS.1 (by omega), fun x h1 h2 => (o1 x (Nat.lt_of_lt_of_le h1 hS.1)).trans (hS.2.1 x h1 h2), hS.2.2⟩
end FLW
/-- a Fault at q: its kind and place -/
def FL (D : va_G) (q : Nat) (k p : Int32) (H : Heap) : Prop := ∃ fs : List Value, va_at D vwCl (q, .inr (7, fs)) H ∧ fs[6]? = some (.int k) ∧ fs[7]? = some (.int p)
def FNU (D : va_G) (cA : Nat → ClassId) (z0 : Nat) (E : Nat → Nat → Nat) (a : Nat) (U : State) : Prop := NewF D U U.heap a ∧ KK D cA U ∧ FZ z0 E U U.heap ∧ z0 ≤ a
theorem NewF.alike {D : va_G} {s U : State} {H : Heap} {a : Nat} (hvm : s.vm.Alike U.vm) (h : NewF D s H a) : NewF D U H a := by
  obtain ⟨k, h1, h2⟩ := h
  obtain ⟨k', hk', he⟩ := hvm.2.2 _ _ h1
  refine ⟨k', hk', ?_⟩
  rw [h2, he]
theorem FNU.blind {D : va_G} {cA : Nat → ClassId} {z0 : Nat} {E : Nat → Nat → Nat} {a : Nat} : Blind (FNU D cA z0 E a) := fun U g mk b h => ⟨NewF.alike (U := U.calling g mk b) (Vm.Alike.refl U.vm) h.1, va_K.moved (u := U) (U := U.calling g mk b) (Vm.Alike.refl U.vm) h.2.1, h.2.2.1.calling, h.2.2.2⟩
set_option maxHeartbeats 4000000 in
set_option maxRecDepth 100000 in
theorem metX9_init (l : Launch) (hlt : l.stackTraces = false) {D : va_G} {cA : Nat → ClassId} {z0 : Nat} {E : Nat → Nat → Nat} {a : Nat} {k p9 : Int32} : Met l yX9_init (ws_ yX9_init cX9_init 3 none) ({ frames := 6, cells := 0, slots := 0, locals := 120 }) (va_Pc [.ref a, .int k, .int p9] (FNU D cA z0 E a)) (va_Qv (fun _ : Unit => True) (fun _ t => FL D a k p9 t.heap) (ONE a)) 0 0 (ONE a) := by
  refine Met.ofW (cc := cX9_init) (maxL := 3) (ret := none) (by decide) rfl ?_
  intro p e s m args below meth c s₁ B hml hv
  obtain ⟨rfl, hv⟩ := hv
  have hx := B.exec
  have hb := B.bytes
  have hr := B.returns
  have hts := atoms_spec (ws := ws_ yX9_init cX9_init 3 none) B.pre
  have hts : ∀ w ∈ lw_all, w.before _ s = true := fun w h => hts w (List.mem_cons_of_mem _ h)
  have hown : s.vm.findClass RX9 = some m.cls := findClass_of_methodNamed B.named
  have hlocks := B.notSynchronized
  have hS : va_S (ONE a) s.heap s.heap [] := va_S.rf
  have hl := lv_entry ([.ref a, .int k, .int p9]) (n := 3) (Nat.le_of_ble_eq_true rfl)
  rw [lg_entry_eq]
  generalize (lg_sl ([.ref a, .int k, .int p9]) ++ List.replicate (3 - (lg_sl ([.ref a, .int k, .int p9])).length) Slot.unset).toArray = ls at hl ⊢
  have hl : lv_has ls 3 [(0, .ref a), (1, .int k), (2, .int p9)] := hl
  have hin : meth.name = "<init>" := (name_of_methodNamed B.named B.method).1
  obtain ⟨hN, hK, hZ, hza⟩ := hv
  refine lv_aload_n hx hb dX9_init_0 rfl (lv_at hl 0 rfl) ?_
  refine h_super9 hx hb hlt hts hZ hown hK hN (hl.1.trans hml.symm) (Nat.le_of_ble_eq_true rfl) (Nat.le_of_ble_eq_true rfl) dX9_init_1 (fun H locs fs hfs h1 oq hz hS => ?_)
  refine lv_aload_n hx hb dX9_init_4 rfl (lv_at hl 0 rfl) ?_
  refine lv_iload_n hx hb dX9_init_5 rfl (lv_at hl 1 rfl) ?_
  refine h_putF (A := ONE a) (C := RX9) (T := TX9) (N := 8) (ci := 7) (v := .int k) hx hb hts in_X9 tyX9 tyX9_ok nmX9 hown hK h1 rfl hS rfl 6 (by decide) (hts _ q1141) (fun _ h9 => h9) rfl hin rfl (ty := .int) (by decide +kernel) rfl rfl (by rw [hfs]; decide) dX9_init_6 (fun H locs h1 oq hz hS => ?_)
  refine lv_aload_n hx hb dX9_init_9 rfl (lv_at hl 0 rfl) ?_
  refine lv_iload_n hx hb dX9_init_10 rfl (lv_at hl 2 rfl) ?_
  refine h_putF (A := ONE a) (C := RX9) (T := TX9) (N := 8) (ci := 7) (v := .int p9) hx hb hts in_X9 tyX9 tyX9_ok nmX9 hown hK h1 rfl hS rfl 7 (by decide) (hts _ q1143) (fun _ h9 => h9) rfl hin rfl (ty := .int) (by decide +kernel) rfl rfl (by rw [List.length_set, hfs]; decide) dX9_init_11 (fun H locs h1 oq hz hS => ?_)
  exact W.vret hx hb hr (fun t ht _ => ⟨⟨(), rfl, trivial, ⟨_, ht ▸ h1, by simp [hfs], by simp [hfs]⟩⟩, hS.F ht⟩) hS.2.2 dX9_init_14 hlocks
