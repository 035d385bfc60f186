/-! 12.mrows: more rows of the twin's walks -/
theorem b2i_f {r : Bool} (h : b2i r = 0) : ¬ r = true := by
  cases r with
  | false => decide
  | true => exact absurd h (by decide)
theorem b2i_t {r : Bool} (h : ¬ b2i r = 0) : r = true := by
  cases r with
  | false => exact absurd rfl h
  | true => rfl
theorem b2i_pick {P : Prop} [Decidable P] {x y : Int32} {a b : Bool} (h1 : x = b2i a) (h2 : y = b2i b) : (if P then x else y) = b2i (if P then a else b) := by
  by_cases c : P
  · rw [if_pos c, if_pos c]; exact h1
  · rw [if_neg c, if_neg c]; exact h2
section JR
variable {p : Program} {l : Launch} {e : Env} {R : Room} {s : State} {m : MethodId} {args : Array Value} {below : List Frame} {meth : Method} {c : Code} {H : Heap} {locs : List Loc} {cells slots : Nat} {Q : State → Prop}
variable {cc : ByteArray} {pc nL : Nat} {ls : Array Slot} {rest : List Value}
theorem J_mxI (hx : p.tables.exec = Jvm.exec) (hb : c.code = cc) (hml : c.maxLocals = nL) (hsz : ls.size = nL) {own : String} {index : Nat} (hown : s.vm.findClass own = some m.cls) (hlink : (Cond.methodLink own index Lib.Math.max.name).before args s = true) (hstat : (Cond.static Lib.Math.max.name).before args s = true) (hini : (Cond.initialized "java/lang/Math").before args s = true) (hcode : (Cond.code Lib.Math.max.name Lib.Math.max.code 2 (some .int)).before args s = true)
    (hframes : 1 ≤ R.frames) (hlocals : (rest.map fun v => v.category).sum + 13 ≤ R.locals) (hc : cells ≤ R.cells) (hs : slots ≤ R.slots) {x y : Int32} (hdg : decode cc pc = .ok (.invokestatic index, 3))
    (kk : W p l e R s m args below meth c H locs cells slots Q (F0 m (pc + 3) ls (.int (mxI x y) :: rest))) : W p l e R s m args below meth c H locs cells slots Q (F0 m pc ls (.int y :: .int x :: rest)) :=
  va_mmax hx hb (hml.trans hsz.symm) hown hlink hstat hini hcode hframes hlocals hc hs hdg kk
theorem J_mnI (hx : p.tables.exec = Jvm.exec) (hb : c.code = cc) (hml : c.maxLocals = nL) (hsz : ls.size = nL) {own : String} {index : Nat} (hown : s.vm.findClass own = some m.cls) (hlink : (Cond.methodLink own index Lib.Math.min.name).before args s = true) (hstat : (Cond.static Lib.Math.min.name).before args s = true) (hini : (Cond.initialized "java/lang/Math").before args s = true) (hcode : (Cond.code Lib.Math.min.name Lib.Math.min.code 2 (some .int)).before args s = true)
    (hframes : 1 ≤ R.frames) (hlocals : (rest.map fun v => v.category).sum + 13 ≤ R.locals) (hc : cells ≤ R.cells) (hs : slots ≤ R.slots) {x y : Int32} (hdg : decode cc pc = .ok (.invokestatic index, 3))
    (kk : W p l e R s m args below meth c H locs cells slots Q (F0 m (pc + 3) ls (.int (mnI x y) :: rest))) : W p l e R s m args below meth c H locs cells slots Q (F0 m pc ls (.int y :: .int x :: rest)) :=
  va_mmin hx hb (hml.trans hsz.symm) hown hlink hstat hini hcode hframes hlocals hc hs hdg kk
theorem J_abI (hx : p.tables.exec = Jvm.exec) (hb : c.code = cc) (hml : c.maxLocals = nL) (hsz : ls.size = nL) {own : String} {index : Nat} (hown : s.vm.findClass own = some m.cls) (hlink : (Cond.methodLink own index Lib.Math.abs.name).before args s = true) (hstat : (Cond.static Lib.Math.abs.name).before args s = true) (hini : (Cond.initialized "java/lang/Math").before args s = true) (hcode : (Cond.code Lib.Math.abs.name Lib.Math.abs.code 1 (some .int)).before args s = true)
    (hframes : 1 ≤ R.frames) (hlocals : (rest.map fun v => v.category).sum + 13 ≤ R.locals) (hc : cells ≤ R.cells) (hs : slots ≤ R.slots) {x : Int32} (hdg : decode cc pc = .ok (.invokestatic index, 3))
    (kk : W p l e R s m args below meth c H locs cells slots Q (F0 m (pc + 3) ls (.int (abI x) :: rest))) : W p l e R s m args below meth c H locs cells slots Q (F0 m pc ls (.int x :: rest)) :=
  va_mabs hx hb (hml.trans hsz.symm) hown hlink hstat hini hcode hframes hlocals hc hs hdg kk
end JR
section LW2
variable {p : Program} {l : Launch} {e : Env} {R : Room} {s : State} {m : MethodId} {args : Array Value} {below : List Frame} {meth : Method} {c : Code} {H : Heap} {locs : List Loc} {cells slots : Nat} {Q : State → Prop}
variable {cc : ByteArray} {pc : Nat} {ls : Array Slot} {rest : List Value}
theorem ldcwString {T : State} {a0 : Array Value} (X : Stand p l e R s m args below meth c T locs cells slots) (hexec : p.tables.exec = Jvm.exec) {own text : String} {index : Nat} {a : Addr} (hown : s.vm.findClass own = some m.cls)
    (hconst : (Cond.stringRef own index text).before a0 s = true) (hev : (Term.string own index).eval a0 s none [] s = some (.ref a)) {g : JFrame} (hg : g.method = m) (hdg : decode c.code g.pc = .ok (.ldc_w index, 3)) :
    ∀ target, Steps p.tables e below (T.setTop { g with pc := g.pc + 3, stack := .ref a :: g.stack }) target → Steps p.tables e below (T.setTop g) target := by
  obtain ⟨k, cf, i, a', hk, hcf, hcp, -, hr, hev'⟩ := Cond.stringRef_spec hown hconst
  cases hev.symm.trans hev'
  obtain ⟨k', hk', he⟩ := X.warmed.alike.2.2 _ _ hk
  have hr' : k'.resolved[index]? = some (some (.string a)) := by
    rcases X.warmed.entry hk hk' index with h | ⟨h, -⟩
    · rw [h]; exact hr
    · rw [hr] at h; cases h
  intro target hrest
  subst hg
  jvm_step X.here [hexec, hdg, ldc_w.wp_string (e := e) (s := T) (f := g) X.here.top hk' (by rw [he]; exact hcf) hcp hr']
  exact hrest
theorem va_ldcSw (hexec : p.tables.exec = Jvm.exec) (hb : c.code = cc) {own tx : String} {index q : Nat} (hown : s.vm.findClass own = some m.cls) (hZ : vk_R own index tx q s) (hdg : decode cc pc = .ok (.ldc_w index, 3))
    (k : W p l e R s m args below meth c H locs cells slots Q (F0 m (pc + 3) ls (.ref q :: rest))) : W p l e R s m args below meth c H locs cells slots Q (F0 m pc ls rest) := by
  intro T hT X
  obtain ⟨t, a1, b1⟩ := k T hT X
  exact ⟨t, ldcwString X hexec hown (text := tx) (a := q) hZ.1 hZ.2 (g := F0 m pc ls rest) rfl (by rw [hb]; exact hdg) t a1, b1⟩
end LW2
section MRp
variable {p : Program} {l : Launch} {e : Env} {R : Room} {s : State} {m : MethodId} {args : Array Value} {below : List Frame} {meth : Method} {c : Code} {H : Heap} {locs : List Loc} {cells slots : Nat} {Q : State → Prop}
variable {cc : ByteArray} {pc : Nat} {ls : Array Slot} {rest : List Value} {H0 : Heap} {D : va_G} {cA : Nat → ClassId} {ad : Nat → Nat} {h : Mem} {z0 : Nat} {E : Nat → Nat → Nat}
variable {y : MethodName} {bytes : ByteArray} {maxL nL n index : Nat} {ret : Option FieldType} {ws : List Cond} {rm : Room} {As : List Value} {st0 : List Value}
theorem M_callIp (S : CallFix p m c cc nL s args lw_all RX7) (hK : KK D cA s) (hZ : FZ z0 E s s.heap) (hM : MW D cA E ad h H) (hJ : MJ z0 ad) (hS : va_S (MA ad) s.heap H locs) {post : Int32 → Prop} (met : MeI l D cA z0 E ad y ws rm (.ref (ad 69) :: As) h (fun r h' => h' = h ∧ post r)) (cw : CallW R s args RX7 RX7 index y bytes maxL ret ws rm 0 0 n) (hn : As.length = n) (hsize : ls.size = nL) (hst : st0 = As.reverse ++ .ref (ad 69) :: rest) (hW : (rest.map fun v => v.category).sum ≤ 8) (hdg : decode cc pc = .ok (.invokevirtual index, 3)) (hc : cells ≤ R.cells ∧ slots ≤ R.slots)
    (kk : ∀ (r : Int32) (H1 : Heap) (locs1 : List Loc), post r → MW D cA E ad h H1 → va_S (MA ad) s.heap H1 locs1 → W p l e R s m args below meth c H1 locs1 cells slots Q (F0 m (pc + 3) ls (.int r :: rest))) : W p l e R s m args below meth c H locs cells slots Q (F0 m pc ls st0) :=
  M_callI S hK hZ hM hJ hS met cw hn hsize hst hW hdg hc (fun r h2 H1 locs1 hw hM1 hS1 => kk r H1 locs1 hw.2 (hw.1 ▸ hM1) hS1)
theorem M_callISp (S : CallFix p m c cc nL s args lw_all RX7) (hK : KK D cA s) (hZ : FZ z0 E s s.heap) (hM : MW D cA E ad h H) (hJ : MJ z0 ad) (hS : va_S (MA ad) s.heap H locs) {post : Int32 → Prop} (met : MeI l D cA z0 E ad y ws rm As h (fun r h' => h' = h ∧ post r)) (cw : CallB R s args RX7 index y bytes maxL ret ws rm 0 0 n ∧ (Cond.static y).before args s = true) (hn : As.length = n) (hsize : ls.size = nL) (hst : st0 = As.reverse ++ rest) (hW : (rest.map fun v => v.category).sum ≤ 8) (hdg : decode cc pc = .ok (.invokestatic index, 3)) (hc : cells ≤ R.cells ∧ slots ≤ R.slots)
    (kk : ∀ (r : Int32) (H1 : Heap) (locs1 : List Loc), post r → MW D cA E ad h H1 → va_S (MA ad) s.heap H1 locs1 → W p l e R s m args below meth c H1 locs1 cells slots Q (F0 m (pc + 3) ls (.int r :: rest))) : W p l e R s m args below meth c H locs cells slots Q (F0 m pc ls st0) :=
  M_callIS S hK hZ hM hJ hS met cw hn hsize hst hW hdg hc (fun r h2 H1 locs1 hw hM1 hS1 => kk r H1 locs1 hw.2 (hw.1 ▸ hM1) hS1)
theorem M_callZp (S : CallFix p m c cc nL s args lw_all RX7) (hK : KK D cA s) (hZ : FZ z0 E s s.heap) (hM : MW D cA E ad h H) (hJ : MJ z0 ad) (hS : va_S (MA ad) s.heap H locs) {post : Bool → Prop} (met : MeZ l D cA z0 E ad y ws rm (.ref (ad 69) :: As) h (fun r h' => h' = h ∧ post r)) (cw : CallW R s args RX7 RX7 index y bytes maxL ret ws rm 0 0 n) (hn : As.length = n) (hsize : ls.size = nL) (hst : st0 = As.reverse ++ .ref (ad 69) :: rest) (hW : (rest.map fun v => v.category).sum ≤ 8) (hdg : decode cc pc = .ok (.invokevirtual index, 3)) (hc : cells ≤ R.cells ∧ slots ≤ R.slots)
    (kk : ∀ (r : Bool) (H1 : Heap) (locs1 : List Loc), post r → MW D cA E ad h H1 → va_S (MA ad) s.heap H1 locs1 → W p l e R s m args below meth c H1 locs1 cells slots Q (F0 m (pc + 3) ls (.int (b2i r) :: rest))) : W p l e R s m args below meth c H locs cells slots Q (F0 m pc ls st0) :=
  M_callZ S hK hZ hM hJ hS met cw hn hsize hst hW hdg hc (fun r h2 H1 locs1 hw hM1 hS1 => kk r H1 locs1 hw.2 (hw.1 ▸ hM1) hS1)
theorem M_callZSp (S : CallFix p m c cc nL s args lw_all RX7) (hK : KK D cA s) (hZ : FZ z0 E s s.heap) (hM : MW D cA E ad h H) (hJ : MJ z0 ad) (hS : va_S (MA ad) s.heap H locs) {post : Bool → Prop} (met : MeZ l D cA z0 E ad y ws rm As h (fun r h' => h' = h ∧ post r)) (cw : CallB R s args RX7 index y bytes maxL ret ws rm 0 0 n ∧ (Cond.static y).before args s = true) (hn : As.length = n) (hsize : ls.size = nL) (hst : st0 = As.reverse ++ rest) (hW : (rest.map fun v => v.category).sum ≤ 8) (hdg : decode cc pc = .ok (.invokestatic index, 3)) (hc : cells ≤ R.cells ∧ slots ≤ R.slots)
    (kk : ∀ (r : Bool) (H1 : Heap) (locs1 : List Loc), post r → MW D cA E ad h H1 → va_S (MA ad) s.heap H1 locs1 → W p l e R s m args below meth c H1 locs1 cells slots Q (F0 m (pc + 3) ls (.int (b2i r) :: rest))) : W p l e R s m args below meth c H locs cells slots Q (F0 m pc ls st0) :=
  M_callZS S hK hZ hM hJ hS met cw hn hsize hst hW hdg hc (fun r h2 H1 locs1 hw hM1 hS1 => kk r H1 locs1 hw.2 (hw.1 ▸ hM1) hS1)
theorem FZ.str {U : State} {H : Heap} (hZ : FZ z0 E U H) (hU : U.heap = H) (i : Nat) (hi : i < 30) : SRU (E 0 i) (E 1 i) (txt i) U := by
  unfold SRU
  rw [hU]
  exact ⟨(hZ.1.1 i hi).narrow (fun q h => h.elim), hZ.1.2.1.narrow (fun q h => h.elim), hZ.1.2.2.2.2.2.2.2.2.narrow (fun q h => h.elim)⟩
theorem FZ.strRecv (hZ : FZ z0 E s s.heap) {A : Nat → Prop} (hS : va_S A s.heap H locs) (hA : ∀ q, A q → z0 ≤ q) (i : Nat) (hi : i < 30) : ∃ cellB : Cell, H[E 0 i]? = some cellB ∧ cellB.vm.isStatics = false ∧ s.vm.findClass "java/lang/String" = some cellB.cls := by
  obtain ⟨cell, h1, h2, h3, h4⟩ := (hZ.1.1 i hi).1
  exact ⟨cell, by rw [hS.2.1 _ (Array.getElem?_eq_some_iff.mp h1).1 (fun q => h4 (hA _ q))]; exact h1, h2, h3⟩
theorem FZ.ldc (hZ : FZ z0 E s s.heap) (j : Nat) {q : String × Nat × String × Nat} (e : strs[j]? = some q) : vk_R q.1 q.2.1 q.2.2.1 (E 0 q.2.2.2) s := hZ.2.2.1 q (List.mem_of_getElem? e)
theorem M_strlen (S : CallFix p m c cc nL s args lw_all RX7) (hZ : FZ z0 E s s.heap) (hM : MW D cA E ad h H) (hJ : MJ z0 ad) (hS : va_S (MA ad) s.heap H locs) (i : Nat) (hi : i < 30) (cw : CallW R s args RX7 "java/lang/String" index yJ9_length cJ9_length 1 (some .int) (ws_ yJ9_length cJ9_length 1 (some .int)) ({ frames := 3, cells := 0, slots := 0, locals := 80 }) 0 0 0) (hsize : ls.size = nL) (hW : (rest.map fun v => v.category).sum ≤ 8) (hdg : decode cc pc = .ok (.invokevirtual index, 3)) (hc : cells ≤ R.cells ∧ slots ≤ R.slots)
    (kk : ∀ (H1 : Heap) (locs1 : List Loc), MW D cA E ad h H1 → va_S (MA ad) s.heap H1 locs1 → W p l e R s m args below meth c H1 locs1 cells slots Q (F0 m (pc + 3) ls (.int (nI (txt i).length) :: rest))) : W p l e R s m args below meth c H locs cells slots Q (F0 m pc ls (.ref (E 0 i) :: rest)) :=
  R_callI (As := []) S hS (metJ9_length l (q := E 0 i) (v := E 1 i) (tx := txt i)) SRU.blind (fun U hU hW => (hZ.go hS hJ.z hU hW).str rfl i hi) (hZ.strRecv hS hJ.z i hi) cw rfl hsize rfl hW hdg hc (fun r H1 locs1 hw hk hS => by subst hw; exact kk H1 locs1 (hM.kept hk) hS)
theorem M_strchar (S : CallFix p m c cc nL s args lw_all RX7) (hZ : FZ z0 E s s.heap) (hM : MW D cA E ad h H) (hJ : MJ z0 ad) (hS : va_S (MA ad) s.heap H locs) (i : Nat) (hi : i < 30) {x : Int32} (hin : vp_in x (txt i).length) (cw : CallW R s args RX7 "java/lang/String" index yJ9_charAt cJ9_charAt 2 (some .char) (ws_ yJ9_charAt cJ9_charAt 2 (some .char)) ({ frames := 7, cells := 0, slots := 0, locals := 220 }) 0 0 1) (hsize : ls.size = nL) (hW : (rest.map fun v => v.category).sum ≤ 8) (hdg : decode cc pc = .ok (.invokevirtual index, 3)) (hc : cells ≤ R.cells ∧ slots ≤ R.slots)
    (kk : ∀ (H1 : Heap) (locs1 : List Loc), MW D cA E ad h H1 → va_S (MA ad) s.heap H1 locs1 → W p l e R s m args below meth c H1 locs1 cells slots Q (F0 m (pc + 3) ls (.int (nI ((txt i).getD (ix x) 0)) :: rest))) : W p l e R s m args below meth c H locs cells slots Q (F0 m pc ls (.int x :: .ref (E 0 i) :: rest)) := by
  have hlen : (txt i).length < 65536 := (hZ.1.1 i hi).2.2.2.2.2
  obtain ⟨j, hj, rfl⟩ := vp_in_of hin (by omega)
  have e : ix (nI j) = j := nI_clamp (by omega)
  rw [e] at kk
  exact R_callI (As := [.int (nI j)]) S hS (metJ9_charAt l (q := E 0 i) (v := E 1 i) (tx := txt i) hj) SRU.blind (fun U hU hW => (hZ.go hS hJ.z hU hW).str rfl i hi) (hZ.strRecv hS hJ.z i hi) cw rfl hsize rfl hW hdg hc (fun r H1 locs1 hw hk hS => by subst hw; exact kk H1 locs1 (hM.kept hk) hS)
theorem M_alenw (hx : p.tables.exec = Jvm.exec) (hb : c.code = cc) (hK : KK D cA s) (hM : MW D cA E ad h H) (k : Nat) (hk : k < 2) (hdg : decode cc pc = .ok (.arraylength, 1))
    (kk : W p l e R s m args below meth c H locs cells slots Q (F0 m (pc + 1) ls (.int (nI (wlen k)) :: rest))) : W p l e R s m args below meth c H locs cells slots Q (F0 m pc ls (.ref (ad k) :: rest)) :=
  h_alen hx hb hK (hM.2.2 k hk) 4 rfl rfl hdg kk
theorem M_aald (hx : p.tables.exec = Jvm.exec) (hb : c.code = cc) (hK : KK D cA s) (hM : MW D cA E ad h H) (k : Nat) (hk : k < 2) {x : Int32} {j : Nat} (hj : ix x = j) (hin : vp_in x (wlen k)) (hdg : decode cc pc = .ok (.aaload, 1))
    (kk : W p l e R s m args below meth c H locs cells slots Q (F0 m (pc + 1) ls (.ref (E 0 (widx k j)) :: rest))) : W p l e R s m args below meth c H locs cells slots Q (F0 m pc ls (.int x :: .ref (ad k) :: rest)) := by
  subst hj
  exact va_aldq hx hb hK (va_P1 (hM.2.2 k hk)) 0 4 rfl rfl hin hdg kk
end MRp
