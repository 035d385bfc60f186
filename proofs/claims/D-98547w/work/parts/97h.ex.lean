/-! 97h.ex, printed by tools/mk_ex.py: the Reader reads a rule: what its methods keep; parts, products, sums -/
def cst (n b : Nat) (r : EX) : Nat := match r with
  | .ok x => x.1 - b
  | .error _ => n - b + 1
def EXC (l : Launch) (D : va_G) (cA : Nat → ClassId) (z0 : Nat) (E : Nat → Nat → Nat) (tp : Nat → Nat) (n : Nat) (f : Nat → Int32) (rd ha tx : Nat) (y : MethodName) (ws : List Cond) (fr a : Nat) (F : Nat → List Nat → EX) (P : Nat → Prop) : Prop :=
  ∀ (g : Nat → Int32) (b sz : Nat) (cs : List Nat), b ≤ n → P b → vy_Met l y ws ({ frames := fr, cells := 16 * cst n b (F b cs), slots := 64 * cst n b (F b cs), locals := 40 * fr + 600 }) (va_Pc [.ref rd, .int (nI a)] (PhRz D cA z0 E tp n f rd ha tx g b sz)) (va_Qr (fun x : Nat × List Nat => F b cs = .ok x) (fun x q t => RW D cA z0 E tp n rd ha tx g x.1 t t.heap ∧ EXq D E sz t.heap.size t.heap cs x.2 q) (RA rd ha sz)) (YX D (fun e => F b cs = .error e) (RA rd ha sz)) (16 * cst n b (F b cs)) (64 * cst n b (F b cs)) (RA rd ha sz)
theorem W_h {p : Program} {l : Launch} {e : Env} {R : Room} {s : State} {m : MethodId} {args : Array Value} {below : List Frame} {meth : Method} {c : Code} {H : Heap} {locs : List Loc} {cells slots : Nat} {Q : State → Prop} {g : JFrame} (k : ∀ H1 : Heap, (∀ q : Nat, H1[q]? = H[q]?) → H1.size = H.size → W p l e R s m args below meth c H1 locs cells slots Q g) : W p l e R s m args below meth c H locs cells slots Q g := k H (fun _ => rfl) rfl
theorem size_le {H H1 : Heap} (hk : ∀ q : Nat, q < H.size → H1[q]? = H[q]?) : H.size ≤ H1.size := by
  rcases Nat.lt_or_ge H1.size H.size with h | h
  · have h1 := hk H1.size h
    rw [Array.getElem?_eq_none (Nat.le_refl _), Array.getElem?_eq_getElem h] at h1
    cases h1
  · exact h
section EXL
variable {D : va_G} {cA : Nat → ClassId} {z0 : Nat} {E : Nat → Nat → Nat} {tp : Nat → Nat} {n rd ha tx : Nat} {g : Nat → Int32} {b : Nat} {s : State} {H H1 : Heap}
theorem SR.but {A : Nat → Prop} {w wv a ci : Nat} {fs : List Value} {q : vw_C} {x : List Nat} (hK : KK D cA s) (h : SR A s H w wv x) (ha1 : va_at D vwCl (a, .inr (ci, fs)) H) (hc : vwCl[ci]? = some q) (hn : q.1 ≠ "java/lang/String") (hk : ∀ y, y < H.size → y ≠ a → H1[y]? = H[y]?) : SR A s H1 w wv x := by
  obtain ⟨cell, g1, g2, g3⟩ := at_recv hK ha1 hc
  have e1 : w ≠ a := fun e => by
    subst e
    obtain ⟨c2, h1, h2, h3, -⟩ := h.1
    cases g1.symm.trans h1
    obtain ⟨k1, a1, a2⟩ := Vm.findClass_spec g3
    obtain ⟨k2, b1, b2⟩ := Vm.findClass_spec h3
    cases a1.symm.trans b1
    exact hn (a2.symm.trans b2)
  have e2 : wv ≠ a := fun e => by
    subst e
    obtain ⟨c2, h1, h2, -⟩ := h.2.2.2.1
    cases g1.symm.trans h1
    obtain ⟨-, k, h3, comp, h4⟩ := h2
    obtain ⟨f1, kC, f2, f3⟩ := K_at hK hc
    have e5 : D.1 ci = cell.cls := Option.some.inj (f1.symm.trans g3)
    rw [← e5] at h3
    have e6 : kC = k := Option.some.inj (f2.symm.trans h3)
    rw [← e6, f3] at h4
    cases h4
  have hA : SR (fun y => y ≠ w ∧ y ≠ wv) s H w wv x := by
    obtain ⟨⟨c1, a1, a2, a3, -⟩, ⟨c2, k2, i2, f2, d2, b1, b2, b3, b4, b5, -⟩, ⟨c3, k3, i3, f3, d3, b6, b7, b8, b9, b10, -⟩, ⟨c4, t1, t2, t3, t4, t5, t6, -⟩, h5⟩ := h
    exact ⟨⟨c1, a1, a2, a3, fun h => h.1 rfl⟩, ⟨c2, k2, i2, f2, d2, b1, b2, b3, b4, b5, fun h => h.1 rfl⟩, ⟨c3, k3, i3, f3, d3, b6, b7, b8, b9, b10, fun h => h.1 rfl⟩, ⟨c4, t1, t2, t3, t4, t5, t6, fun h => h.2 rfl⟩, h5⟩
  have hB := hA.kept (H1 := H1) (fun y hy hn => hk y hy (fun e => hn ⟨fun e3 => e1 (e3 ▸ e), fun e3 => e2 (e3 ▸ e)⟩))
  obtain ⟨⟨c1, a1, a2, a3, z1⟩, ⟨c2, k2, i2, f2, d2, b1, b2, b3, b4, b5, z2⟩, ⟨c3, k3, i3, f3, d3, b6, b7, b8, b9, b10, z3⟩, ⟨c4, t1, t2, t3, t4, t5, t6, z4⟩, h5⟩ := h
  obtain ⟨⟨e1, a1', a2', a3', -⟩, ⟨e2, k2', i2', f2', d2', b1', b2', b3', b4', b5', -⟩, ⟨e3, k3', i3', f3', d3', b6', b7', b8', b9', b10', -⟩, ⟨e4, t1', t2', t3', t4', t5', t6', -⟩, -⟩ := hB
  exact ⟨⟨e1, a1', a2', a3', z1⟩, ⟨e2, k2', i2', f2', d2', b1', b2', b3', b4', b5', z2⟩, ⟨e3, k3', i3', f3', d3', b6', b7', b8', b9', b10', z3⟩, ⟨e4, t1', t2', t3', t4', t5', t6', z4⟩, h5⟩
theorem RW.but {a ci : Nat} {fs : List Value} {q : vw_C} (h : RW D cA z0 E tp n rd ha tx g b s H) (hK : KK D cA s) (ha1 : va_at D vwCl (a, .inr (ci, fs)) H) (hc : vwCl[ci]? = some q) (hn : q.1 ≠ "java/lang/String") (h1 : a ≠ rd) (h2 : a ≠ ha) (hk : ∀ y, y < H.size → y ≠ a → H1[y]? = H[y]?) : RW D cA z0 E tp n rd ha tx g b s H1 := by
  obtain ⟨v, lg, w, wv, g1, g2, g3, g4, g5⟩ := h
  exact ⟨v, lg, w, wv, g1.kept (hk _ g1.lt h1.symm), g2.kept (hk _ g2.lt h2.symm), g3, SR.but hK g4 ha1 hc hn hk, g5⟩
theorem ty_pos (h : ty tp n b ≠ 0) : b < n := by
  rcases Nat.lt_or_ge b n with h1 | h1
  · exact h1
  · unfold ty at h
    rw [if_pos h1] at h
    exact absurd rfl h
theorem cst_bind {r : EX} {G : Nat × List Nat → EX} (h1 : ∀ x, r = .ok x → x.1 ≤ n) (h2 : ∀ x y, r = .ok x → G x = .ok y → x.1 ≤ y.1) : cst n b r ≤ cst n b (eR r G) := by
  cases hr : r with
  | error e => exact Nat.le_refl _
  | ok x =>
    show x.1 - b ≤ cst n b (G x)
    have h3 := h1 x hr
    cases hy : G x with
    | error e => show x.1 - b ≤ n - b + 1; omega
    | ok y => have h4 := h2 x y hr hy; show x.1 - b ≤ y.1 - b; omega
theorem cst_ge {b' : Nat} {r : EX} (hb : b ≤ b') (hn : b' ≤ n) (h : ∀ x, r = .ok x → b' ≤ x.1) : cst n b' r + (b' - b) ≤ cst n b r := by
  cases hr : r with
  | error e => show n - b' + 1 + (b' - b) ≤ n - b + 1; omega
  | ok x => have := h x hr; show x.1 - b' + (b' - b) ≤ x.1 - b; omega
theorem cst_pos {r : EX} (h : ∀ x, r = .ok x → b < x.1) : 1 ≤ cst n b r := by
  cases hr : r with
  | error e => show 1 ≤ n - b + 1; omega
  | ok x => have := h x hr; show 1 ≤ x.1 - b; omega
theorem exB_sg (h : exB tp n b = false) : ¬ ty tp n b = 2 ∧ ¬ ty tp n b = 1 ∧ sgS tp n 40 b = false := by
  unfold exB at h
  rw [Bool.or_eq_false_iff, decide_eq_false_iff_not] at h
  exact ⟨fun h9 => h.1 (Or.inl h9), fun h9 => h.1 (Or.inr h9), h.2⟩
theorem bad_part {rec : Nat → List Nat → EX} {cs : List Nat} (h : exB tp n b = false) : pPart tp n rec b cs = .error (1, b) := by
  obtain ⟨h1, h2, h3⟩ := exB_sg h
  unfold pPart mkS
  rw [if_neg h1, if_neg h2, h3]
  rfl
theorem bad_prod {rec : Nat → List Nat → EX} {cs : List Nat} (h : exB tp n b = false) : pProd tp n rec b cs = .error (1, b) := by unfold pProd; rw [bad_part h]; rfl
theorem bad_sum {rec : Nat → List Nat → EX} {cs : List Nat} (h : exB tp n b = false) : pSum tp n rec b cs = .error (1, b) := by unfold pSum; rw [bad_prod h]; rfl
theorem wd_ty {t : Nat} (h : ¬ ty tp n b = 1) : wdS tp n t b = false := by
  unfold wdS
  rw [decide_eq_false (fun h9 => h h9.1)]
  rfl
theorem bad_nots (h : ¬ ty tp n b = 1) : pNots tp n 8 b 0 = .ok (b, 0) := by
  show (if wdS tp n 14 b = true then _ else _) = _
  rw [wd_ty h]
  rfl
theorem bad_not {rec : Nat → List Nat → EX} {cs : List Nat} (h : exB tp n b = false) : pNot tp n rec b cs = .error (1, b) := by
  unfold pNot
  rw [bad_nots (exB_sg h).2.1]
  show eR (pSum tp n rec b cs) _ = _
  rw [bad_sum h]
  rfl
theorem bad_and {rec : Nat → List Nat → EX} {cs : List Nat} (h : exB tp n b = false) : pAnd tp n rec b cs = .error (1, b) := by unfold pAnd; rw [bad_not h]; rfl
theorem sg_wd {ch : Nat} (h : sgS tp n ch b = true) : wdT tp n b = [ch] := by
  unfold sgS at h
  rw [decide_eq_true_iff] at h
  unfold wdT
  rw [if_neg (by rw [h.1]; decide), if_pos h.1, h.2]
theorem whT_S (h : ty tp n b = 1) : whT (wdT tp n b) = whS tp n 1 b := by
  have e : ∀ i, i < 6 → decide (wdT tp n b = txt (22 + i)) = wdS tp n (widx 1 i) b := by
    intro i hi
    have e2 : widx 1 i = 22 + i := (by decide : ∀ j : Fin 6, widx 1 j.1 = 22 + j.1) ⟨i, hi⟩
    rw [e2, ← isR_wd ((by decide +kernel : ∀ j : Fin 6, (txt (22 + j.1)).length ≤ 7 ∧ 0 < (txt (22 + j.1)).length ∧ isLb ((txt (22 + j.1)).getD 0 0) = true) ⟨i, hi⟩)]
    unfold isR
    rw [Bool.eq_iff_iff, decide_eq_true_iff, decide_eq_true_iff]
    exact ⟨fun h9 => ⟨Or.inl h, h9⟩, fun h9 => h9.2⟩
  have k : ∀ m, m ≤ 6 → fst1 (fun i => decide (wdT tp n b = txt (22 + i))) m = fst1 (fun i => wdS tp n (widx 1 i) b) m := by
    intro m
    induction m with
    | zero => intro _; rfl
    | succ m ih => intro hm; unfold fst1; rw [ih (by omega), e m (by omega)]
  exact k 6 (Nat.le_refl _)
end EXL
set_option maxHeartbeats 4000000 in
set_option maxRecDepth 100000 in
theorem metX8_part (l : Launch) (hlt : l.stackTraces = false) {D : va_G} {cA : Nat → ClassId} {z0 : Nat} {E : Nat → Nat → Nat} {tp : Nat → Nat} {n : Nat} {f : Nat → Int32} {rd ha tx : Nat} {a d : Nat} (hd : a + d = 7) (h1d : 1 ≤ d) {rec : Nat → List Nat → EX} (hm : Mo n rec) (hrec : 2 ≤ d → EXC l D cA z0 E tp n f rd ha tx yX8_expr (ws_ yX8_expr cX8_expr 3 (some (.object "StrangeKnives$Expr"))) (6 * (d - 1) + 20) (a + 1) rec (fun _ => True)) : EXC l D cA z0 E tp n f rd ha tx yX8_part (ws_ yX8_part cX8_part 3 (some (.object "StrangeKnives$Expr"))) (6 * d + 15) a (pPart tp n rec) (fun b => a = 6 → exB tp n b = false) := by
  intro g b sz cs hbn h6
  refine vy_ofW (cc := cX8_part) (maxL := 3) (ret := (some (.object "StrangeKnives$Expr"))) (by decide) rfl ?_
  intro p e s m args below meth c s₁ B hml het hv
  obtain ⟨rfl, hv⟩ := hv
  have hx := B.exec
  have hb := B.bytes
  have hret := B.returns
  have hts := atoms_spec (ws := ws_ yX8_part cX8_part 3 (some (.object "StrangeKnives$Expr"))) B.pre
  have hts : ∀ w ∈ lw_all, w.before _ s = true := fun w h => hts w (List.mem_cons_of_mem _ h)
  have hown : s.vm.findClass RX8 = some m.cls := findClass_of_methodNamed B.named
  have hlocks := B.notSynchronized
  have hS : va_S (RA rd ha sz) s.heap s.heap [] := va_S.rf
  have hl := lv_entry ([.ref rd, .int (nI a)]) (n := 3) (Nat.le_of_ble_eq_true rfl)
  rw [lg_entry_eq]
  generalize (lg_sl ([.ref rd, .int (nI a)]) ++ List.replicate (3 - (lg_sl ([.ref rd, .int (nI a)])).length) Slot.unset).toArray = ls at hl ⊢
  have hl : lv_has ls 3 [(0, .ref rd), (1, .int (nI a))] := hl
  obtain ⟨hsz, hM, hF, hbn⟩ := hv
  subst hsz
  have hz6 := hF.2.1.2.2.2.2.2
  have hK := hF.1
  have hZ := hF.2.1
  have hn6 := hF.2.2.2.1
  have hA0 : ∀ q, RA rd ha s.heap.size q → RA rd ha s.heap.size q := fun q h => h
  have hAz : ∀ q, RA rd ha s.heap.size q → z0 ≤ q := RAz (H := s.heap) hF
  have hAZ : ∀ q, RA rd ha s.heap.size q → ZA z0 q := hAz
  have htx : ¬ RA rd ha s.heap.size tx := RAtx hF
  have hty := ty_le (tp := tp) (n := n) b
  have hrl : rd < s.heap.size ∧ ha < s.heap.size := by obtain ⟨v, lg, w, wv, h1, h2, -⟩ := hM; exact ⟨h1.lt, h2.lt⟩
  have hlo9 : ∀ x, s.heap.size ≤ x → ¬ R2 rd ha x := fun x h9 h8 => h8.elim (fun e9 => by omega) (fun e9 => by omega)
  refine W_h (fun H hk0 hz0 => ?_)
  have hM := hM.kept (H1 := H) (fun q _ => hk0 q)
  have hS : va_S (RA rd ha s.heap.size) s.heap H [] := ⟨Nat.le_of_eq hz0.symm, fun q _ _ => hk0 q, fun _ h => by cases h⟩
  obtain ⟨v, lg, w, wv, hr, hh, hnum, hW, hwz⟩ := id hM
  refine lv_aload_n hx hb dX8_part_0 rfl (lv_at hl 0 rfl) ?_
  refine h_get (C := RX8) (T := TX8) (N := 9) (ci := 6) (v := .ref (E 3 (so (ty tp n b)))) hx hb hts in_X8 hown hK hr rfl 6 (by decide) (hts _ q1083) (fun _ h9 => h9) rfl dX8_part_1 ?_
  refine va_gets (n := "NUMBER") (v := .ref (E 3 1)) hx hb (((hZ.1.2.2.2.1.1 1 (by decide)).1).narrow hAZ) hS hown (hts _ q1054) (fun _ h => h) dX8_part_4 ?_
  refine lv_acmp_ne (rx := some (E 3 (so (ty tp n b)))) (ry := some (E 3 1)) (tgt := 26) hx hb dX8_part_7 (by decide) (fun c1 => ?_) (fun c1 => ?_)
  · have h2 : ¬ ty tp n b = 2 := fun h9 => c1 (E3_ty hZ hty (by decide : 1 < 5) h9)
    refine lv_aload_n hx hb dX8_part_26 rfl (lv_at hl 0 rfl) ?_
    refine va_ldcS hx hb hown (hZ.2.2.1 _ (List.mem_of_getElem? (i := 11) rfl)) dX8_part_27 ?_
    have hK0 : 0 ≤ cst n b (pPart tp n rec b cs) := Nat.zero_le _
    refine R_is (rest := []) ⟨hx, hb, hml, hown, hts⟩ hF hbn hM hS hAz htx (i := 11) (by decide) q1112 ⟨by show _ ≤ 6 * d + 15; omega, by show _ ≤ 40 * (6 * d + 15) + 600; omega⟩ hl.1 (Nat.le_of_ble_eq_true rfl) dX8_part_29 ⟨by show _ ≤ 16 * cst n b (pPart tp n rec b cs); omega, by show _ ≤ 64 * cst n b (pPart tp n rec b cs); omega⟩ (fun H1 locs hM hk hS => ?_)
    have hsz9 := size_le hk
    rw [isR_sg (ch := 40) (by rfl) (by decide)]
    generalize hr9 : b2i (sgS tp n 40 b) = r9
    rcases Bool.eq_false_or_eq_true (sgS tp n 40 b) with hq | hq
    · rw [hq] at hr9
      subst hr9
      refine lv_if_eq (tgt := 56) hx hb dX8_part_32 (by decide) (fun c9 => absurd c9 (by decide : ¬ b2i true = 0)) (fun c9 => ?_)
      have hbl := sg_lt hq
      have hnx := nxt_lt (tp := tp) hbl
      have ht3 : ty tp n b = 3 := by unfold sgS at hq; exact (of_decide_eq_true hq).1
      have ha6 : ¬ a = 6 := fun h9 => by have := (exB_sg (h6 h9)).2.2; rw [hq] at this; cases this
      have hF9 : pPart tp n rec b cs = eR (rec (nxt tp n b) cs) (fun x => eR (mkS tp n 41 x.1) (fun s3 => .ok (s3, x.2))) := by unfold pPart mkS; rw [if_neg h2, if_neg (by rw [ht3]; decide), hq]; rfl
      have hK1 : cst n (nxt tp n b) (rec (nxt tp n b) cs) + 1 ≤ cst n b (pPart tp n rec b cs) := by
        have k1 := cst_bind (n := n) (b := b) (r := rec (nxt tp n b) cs) (G := fun x => eR (mkS tp n 41 x.1) (fun s3 => .ok (s3, x.2))) (fun x9 h9 => (hm _ _ _ (nxt_le hbn).2 h9).2) (fun x9 y9 h9 h8 => by obtain ⟨s9, h7, h5⟩ := eR_ok h8; cases h5; have := mk_ok h7; have := nxt_le (tp := tp) (n := n) (s := x9.1) (by omega); show x9.1 ≤ s9; omega)
        have k2 := cst_ge (n := n) (b := b) (b' := nxt tp n b) (r := rec (nxt tp n b) cs) (by omega) (nxt_le hbn).2 (fun x9 h9 => (hm _ _ _ (nxt_le hbn).2 h9).1)
        rw [hF9]
        omega
      refine lv_aload_n hx hb dX8_part_35 rfl (lv_at hl 0 rfl) ?_
      refine R_go (rest := []) ⟨hx, hb, hml, hown, hts⟩ hF hbn hM hS hA0 hAz htx q1010 ⟨by show _ ≤ 6 * d + 15; omega, by show _ ≤ 40 * (6 * d + 15) + 600; omega⟩ hl.1 (Nat.le_of_ble_eq_true rfl) dX8_part_36 ⟨by show _ ≤ 16 * cst n b (pPart tp n rec b cs); omega, by show _ ≤ 64 * cst n b (pPart tp n rec b cs); omega⟩ (fun H1 locs hM hsz9 hk hS => ?_)
      have hbn0 := hbn
      have hbn := (nxt_le (tp := tp) hbn).2
      refine lv_aload_n hx hb dX8_part_39 rfl (lv_at hl 0 rfl) ?_
      refine lv_iload_n hx hb dX8_part_40 rfl (lv_at hl 1 rfl) ?_
      refine lv_iconst (v := 1) hx hb dX8_part_41 (by decide) ?_
      refine lv_iadd hx hb dX8_part_42 ?_
      rw [nI_1]
      have hS0 := hS
      refine Y_r (rest := []) ⟨hx, hb, hml, hown, hts⟩ hF hbn hM hS hA0 hAz htx het hlocks (hrec (by omega) g (nxt tp n b) _ cs hbn trivial) (cwV 1 hts (lw_V q1210 q1212 qs27 q131 q1213) rfl rfl rfl (by decide +kernel) ⟨by show (6 * (d - 1) + 20) + 1 ≤ 6 * d + 15; omega, by show 8 + (3 + 11) + (40 * (6 * (d - 1) + 20) + 600) ≤ 40 * (6 * d + 15) + 600; omega⟩) (fun e9 he9 => by rw [hF9, he9]; rfl) rfl hl.1 rfl (Nat.le_of_ble_eq_true rfl) dX8_part_43 ⟨by show _ ≤ 16 * cst n b (pPart tp n rec b cs); omega, by show _ ≤ 64 * cst n b (pPart tp n rec b cs); omega⟩ (fun _ _ => by omega) (fun _ _ => by omega) (fun x9 qE t H1 locs ht hvm hw hB hsz9 hk hS => ?_)
      subst ht
      obtain ⟨hM, hXqE⟩ := hB
      have hM := hM.moved hvm.symm
      have hmo := hm _ _ _ hbn hw
      have hkE : cst n (nxt tp n b) (rec (nxt tp n b) cs) = x9.1 - nxt tp n b := by rw [hw]; rfl
      have hbn := hmo.2
      have hF8 : pPart tp n rec b cs = eR (mkS tp n 41 x9.1) (fun s3 => .ok (s3, x9.2)) := by rw [hF9, hw]; rfl
      have hXqE := hXqE.wide (lo' := s.heap.size) (hS0.1) (Nat.le_refl _)
      refine lv_astore_n (lv' := [(2, .ref qE), (0, .ref rd), (1, .int (nI a))]) hx hb dX8_part_46 rfl hl (by decide) rfl (fun ls hl => ?_)
      refine lv_aload_n hx hb dX8_part_47 rfl (lv_at hl 1 rfl) ?_
      refine va_ldcSw hx hb hown (hZ.2.2.1 _ (List.mem_of_getElem? (i := 21) rfl)) dX8_part_48 ?_
      have hM41 : isR tp n x9.1 21 = sgS tp n 41 x9.1 := isR_sg (ch := 41) (by rfl) (by decide)
      have hK2 : x9.1 - b + 1 ≤ cst n b (pPart tp n rec b cs) := by
        rw [hF8]
        unfold mkS
        by_cases h9 : sgS tp n 41 x9.1 = true
        · rw [if_pos h9]; have h8 := sg_lt h9; have h7 := nxt_lt (tp := tp) h8; show x9.1 - b + 1 ≤ nxt tp n x9.1 - b; omega
        · rw [if_neg h9]; show x9.1 - b + 1 ≤ n - b + 1; omega
      refine Y_v (rest := []) ⟨hx, hb, hml, hown, hts⟩ hF hbn hM hS hA0 hAz htx het hlocks (metX8_need l hlt (D := D) (cA := cA) (z0 := z0) (E := E) (tp := tp) (n := n) (f := f) (rd := rd) (ha := ha) (tx := tx) (g := g) (b := x9.1) (i := 21) (by decide)) (cwV 1 hts (lw_V q1250 q1252 qs33 q131 q1253) rfl rfl rfl (by decide +kernel) ⟨by show (14) + 1 ≤ 6 * d + 15; omega, by show 8 + (2 + 11) + (480) ≤ 40 * (6 * d + 15) + 600; omega⟩) (fun e9 he9 => by rw [hF8]; unfold mkS; rw [← hM41, he9.1, he9.2]; rfl) rfl hl.1 rfl (Nat.le_of_ble_eq_true rfl) dX8_part_51 ⟨by show _ ≤ 16 * cst n b (pPart tp n rec b cs); omega, by show _ ≤ 64 * cst n b (pPart tp n rec b cs); omega⟩ (fun _ _ => by omega) (fun _ _ => by omega) (fun u t2 H1 locs ht hvm2 hw2 hM hsz9 hk hS => ?_)
      subst ht
      have hM := hM.moved hvm2.symm
      have hXqE := hXqE.kept (fun x h1 h2 h3 => hk x h3 (hlo9 x (by omega)))
      refine lv_aload_n hx hb dX8_part_54 rfl (lv_at hl 0 rfl) ?_
      have hR : pPart tp n rec b cs = .ok (nxt tp n x9.1, x9.2) := by rw [hF8]; unfold mkS; rw [← hM41, hw2]; rfl
      have hKv : cst n b (pPart tp n rec b cs) = nxt tp n x9.1 - b := by rw [hR]; rfl
      have hzt := hS.1
      exact W.widen (k := 16 * cst n b (pPart tp n rec b cs)) (n := 64 * cst n b (pPart tp n rec b cs)) (by omega) (by omega) (vy_ret (W.aret (v := .ref qE) hx hb hret (Or.inl ⟨_, rfl⟩) (Or.inr ⟨_, rfl⟩) (fun t9 ht hW => ⟨⟨(nxt tp n x9.1, x9.2), qE, rfl, hR, (show RW _ _ _ _ _ _ _ _ _ _ _ t9 t9.heap from ht ▸ hM.moved hW.alike), (show EXq _ _ _ t9.heap.size t9.heap _ _ _ from ht ▸ hXqE.wide (Nat.le_refl _) hsz9)⟩, hS.F ht⟩) hS.2.2 dX8_part_55 hlocks))
    · rw [hq] at hr9
      subst hr9
      refine lv_if_eq (tgt := 56) hx hb dX8_part_32 (by decide) (fun c9 => ?_) (fun c9 => absurd (rfl : b2i false = 0) c9)
      obtain ⟨v, lg, w, wv, hr, hh, hnum, hW, hwz⟩ := id hM
      refine lv_aload_n hx hb dX8_part_56 rfl (lv_at hl 0 rfl) ?_
      refine lv_aload_n hx hb dX8_part_57 rfl (lv_at hl 0 rfl) ?_
      refine h_get (C := RX8) (T := TX8) (N := 9) (ci := 6) (v := .ref (E 3 (so (ty tp n b)))) hx hb hts in_X8 hown hK hr rfl 6 (by decide) (hts _ q1083) (fun _ h9 => h9) rfl dX8_part_58 ?_
      refine va_gets (n := "WORD") (v := .ref (E 3 0)) hx hb (((hZ.1.2.2.2.1.1 0 (by decide)).1).narrow hAZ) hS hown (hts _ q1049) (fun _ h => h) dX8_part_61 ?_
      refine lv_acmp_ne (rx := some (E 3 (so (ty tp n b)))) (ry := some (E 3 0)) (tgt := 71) hx hb dX8_part_64 (by decide) (fun c2 => ?_) (fun c2 => ?_)
      · have h1 : ¬ ty tp n b = 1 := fun h9 => c2 (E3_ty hZ hty (by decide : 0 < 5) h9)
        have hR : pPart tp n rec b cs = .error (1, b) := by unfold pPart mkS; rw [if_neg h2, if_neg h1, hq]; rfl
        have hKv : cst n b (pPart tp n rec b cs) = n - b + 1 := by rw [hR]; rfl
        refine lv_iconst (v := 0) hx hb dX8_part_71 (by decide) ?_
        refine lv_iconst (v := 1) hx hb dX8_part_72 (by decide) ?_
        exact R_chk0 (rest := []) (k9 := 1) ⟨hx, hb, hml, hown, hts⟩ hlt hF hbn hM hS hA0 hAz htx het hlocks (hR) rfl q1124 ⟨by show _ ≤ 6 * d + 15; omega, by show _ ≤ 40 * (6 * d + 15) + 600; omega⟩ hl.1 (Nat.le_of_ble_eq_true rfl) dX8_part_73 ⟨by show _ ≤ 16 * cst n b (pPart tp n rec b cs); omega, by show _ ≤ 64 * cst n b (pPart tp n rec b cs); omega⟩ (by omega) (by omega)
      · have h1 : ty tp n b = 1 := Classical.byContradiction (fun h9 => E3_nty hZ hty (by decide : 0 < 5) h9 c2)
        have hbl : b < n := ty_pos (by rw [h1]; decide)
        have hnx := nxt_lt (tp := tp) hbl
        have hF9 : pPart tp n rec b cs = (match whS tp n 1 b with | none => .error (3, b) | some v => .ok (nxt tp n b, cs ++ [10001 + v])) := by unfold pPart; rw [if_neg h2, if_pos h1]; cases whS tp n 1 b <;> rfl
        have hK1 : 1 ≤ cst n b (pPart tp n rec b cs) := cst_pos (fun x9 h9 => by rw [hF9] at h9; cases hw9 : whS tp n 1 b with | none => rw [hw9] at h9; cases h9 | some v9 => rw [hw9] at h9; cases h9; exact hnx)
        refine lv_iconst (v := 1) hx hb dX8_part_67 (by decide) ?_
        refine lv_goto (tgt := 72) hx hb dX8_part_68 (by decide) ?_
        refine lv_iconst (v := 1) hx hb dX8_part_72 (by decide) ?_
        refine R_chk1 (rest := []) ⟨hx, hb, hml, hown, hts⟩ hF hbn hM hS hAz htx q1124 ⟨by show _ ≤ 6 * d + 15; omega, by show _ ≤ 40 * (6 * d + 15) + 600; omega⟩ hl.1 (Nat.le_of_ble_eq_true rfl) dX8_part_73 ⟨by show _ ≤ 16 * cst n b (pPart tp n rec b cs); omega, by show _ ≤ 64 * cst n b (pPart tp n rec b cs); omega⟩ (fun H1 locs hM hk hS => ?_)
        have hsz9 := size_le hk
        have hr := hr.kept (hk _ hr.lt)
        obtain ⟨v, lg, w, wv, hr, hh, hnum, hW, hwz⟩ := id hM
        refine lv_aload_n hx hb dX8_part_76 rfl (lv_at hl 0 rfl) ?_
        refine h_get (C := RX8) (T := TX8) (N := 9) (ci := 6) (v := .ref w) hx hb hts in_X8 hown hK hr rfl 7 (by decide) (hts _ q1084) (fun _ h9 => h9) rfl dX8_part_77 ?_
        have hW9 : SR NoA s _ w wv (wdT tp n b) := hW.narrow (fun q h => h.elim)
        have hwz9 := hwz (Or.inl h1)
        refine va_callq (va_runS (As := [.ref w]) (rest := []) ⟨hx, hb, hml, hown, hts⟩ (metX8_valueOf l (D := D) (cA := cA) (z0 := z0) (E := E) (w := w) (wv := wv) (x := wdT tp n b)) (va_cwS 1 hts (lw_S q1254 q1255 q131 q1256) rfl rfl rfl (by decide +kernel) ⟨by show (4) + 1 ≤ 6 * d + 15; omega, by show 8 + (1 + 11) + (140) ≤ 40 * (6 * d + 15) + 600; omega⟩) ⟨VaU.blind.pc, fun U hU hW => ⟨rfl, by rw [hU]; exact hW9.moved hW.alike, va_K.moved hW.alike hK, hZ.go hS hAz hU hW, hwz9⟩⟩ rfl rfl hl.1 rfl (lv_room (Nat.le_of_ble_eq_true rfl)) dX8_part_80 ⟨by show _ ≤ 16 * cst n b (pPart tp n rec b cs); omega, by show _ ≤ 64 * cst n b (pPart tp n rec b cs); omega⟩) hS (fun _ _ h => h.elim) (fun _ h => h.elim) (fun r9 u t H1 locs ht hvm hw hB hz9 hk hS => ?_)
        subst ht
        subst hw
        have hk := fun x (h9 : x < _) => hk x h9 (fun h => h)
        have hM := hM.kept hk
        have hr := hr.kept (hk _ hr.lt)
        rw [whT_S h1]
        cases hw9 : whS tp n 1 b with
        | none =>
          have hR : pPart tp n rec b cs = .error (3, b) := by rw [hF9, hw9]
          show W p l e _ s m _ below meth c _ _ _ _ _ (F0 m 83 ls [.null])
          refine lv_astore_nN (lv' := [(2, .null), (0, .ref rd), (1, .int (nI a))]) hx hb dX8_part_83 rfl hl (by decide) rfl (fun ls hl => ?_)
          refine lv_aload_n hx hb dX8_part_84 rfl (lv_at hl 1 rfl) ?_
          refine lv_aload_nN hx hb dX8_part_85 rfl (lv_at hl 0 rfl) ?_
          refine lv_ifnullN (tgt := 93) hx hb dX8_part_86 (by decide) ?_
          refine lv_iconst (v := 0) hx hb dX8_part_93 (by decide) ?_
          refine lv_iconst (v := 3) hx hb dX8_part_94 (by decide) ?_
          exact R_chk0 (rest := []) (k9 := 3) ⟨hx, hb, hml, hown, hts⟩ hlt hF hbn hM hS hA0 hAz htx het hlocks (hR) rfl q1124 ⟨by show _ ≤ 6 * d + 15; omega, by show _ ≤ 40 * (6 * d + 15) + 600; omega⟩ hl.1 (Nat.le_of_ble_eq_true rfl) dX8_part_95 ⟨by show _ ≤ 16 * cst n b (pPart tp n rec b cs); omega, by show _ ≤ 64 * cst n b (pPart tp n rec b cs); omega⟩ (by omega) (by omega)
        | some v9 =>
          have hv6 := fst1_lt hw9
          have hR : pPart tp n rec b cs = .ok (nxt tp n b, cs ++ [10001 + v9]) := by rw [hF9, hw9]
          have hKv : cst n b (pPart tp n rec b cs) = nxt tp n b - b := by rw [hR]; rfl
          show W p l e _ s m _ below meth c _ _ _ _ _ (F0 m 83 ls [.ref (E 2 v9)])
          refine lv_astore_n (lv' := [(2, .ref (E 2 v9)), (0, .ref rd), (1, .int (nI a))]) hx hb dX8_part_83 rfl hl (by decide) rfl (fun ls hl => ?_)
          refine lv_aload_n hx hb dX8_part_84 rfl (lv_at hl 1 rfl) ?_
          refine lv_aload_n hx hb dX8_part_85 rfl (lv_at hl 0 rfl) ?_
          refine lv_ifnull hx hb dX8_part_86 ?_
          refine lv_iconst (v := 1) hx hb dX8_part_89 (by decide) ?_
          refine lv_goto (tgt := 94) hx hb dX8_part_90 (by decide) ?_
          refine lv_iconst (v := 3) hx hb dX8_part_94 (by decide) ?_
          refine R_chk1 (rest := []) ⟨hx, hb, hml, hown, hts⟩ hF hbn hM hS hAz htx q1124 ⟨by show _ ≤ 6 * d + 15; omega, by show _ ≤ 40 * (6 * d + 15) + 600; omega⟩ hl.1 (Nat.le_of_ble_eq_true rfl) dX8_part_95 ⟨by show _ ≤ 16 * cst n b (pPart tp n rec b cs); omega, by show _ ≤ 64 * cst n b (pPart tp n rec b cs); omega⟩ (fun H1 locs hM hk hS => ?_)
          have hsz9 := size_le hk
          have hr := hr.kept (hk _ hr.lt)
          refine lv_aload_n hx hb dX8_part_98 rfl (lv_at hl 1 rfl) ?_
          refine R_go (rest := []) ⟨hx, hb, hml, hown, hts⟩ hF hbn hM hS hA0 hAz htx q1010 ⟨by show _ ≤ 6 * d + 15; omega, by show _ ≤ 40 * (6 * d + 15) + 600; omega⟩ hl.1 (Nat.le_of_ble_eq_true rfl) dX8_part_99 ⟨by show _ ≤ 16 * cst n b (pPart tp n rec b cs); omega, by show _ ≤ 64 * cst n b (pPart tp n rec b cs); omega⟩ (fun H1 locs hM hsz9 hk hS => ?_)
          have hbn0 := hbn
          have hbn := (nxt_le (tp := tp) hbn).2
          have hsH := hS.1
          refine h_newO (ci := 10) (fs := [.null]) (C := RX13) (T := TX13) (N := 1) hx hb hts in_X13 tyX13 tyX13_ok hown (hts _ q1275) (hts _ q1276) (hts _ q137) hK hS rfl (fun j hj => by rcases (show j = 0 by omega) with rfl <;> rfl) (by show _ ≤ 16 * cst n b (pPart tp n rec b cs); omega) (by show _ ≤ 64 * cst n b (pPart tp n rec b cs); omega) dX8_part_102 (fun H2 hT oq hz hS => ?_)
          have hM := hM.kept oq
          obtain ⟨qT, hqT⟩ : ∃ q, H1.size = q := ⟨_, rfl⟩
          rw [hqT] at hT hz ⊢
          have hlT : s.heap.size ≤ qT := by omega
          have hgT := hT.lt
          refine lv_dup hx hb dX8_part_105 rfl ?_
          refine lv_aload_n hx hb dX8_part_106 rfl (lv_at hl 0 rfl) ?_
          have hsz9 := hT.lt
          refine va_callv (va_runI (As := [.ref (E 2 v9)]) (rest := [.ref qT]) ⟨hx, hb, hml, hown, hts⟩ (metX13_init l (D := D) (cA := cA) (q := qT) (x := E 2 v9)) (cwI 1 hts (lw_meth q1279) rfl rfl rfl (hts _ q137) (hts _ q1277) (hts _ q1278) rfl (by decide +kernel) ⟨by show (2) + 1 ≤ 6 * d + 15; omega, by show 8 + (2 + 11) + (80) ≤ 40 * (6 * d + 15) + 600; omega⟩) ⟨NwU.blind.pc, fun U hU hW => ⟨rfl, NwU.go hT hK hZ.2.1 hU hW⟩⟩ rfl rfl hl.1 rfl (lv_room (Nat.le_of_ble_eq_true rfl)) dX8_part_107 ⟨by show _ ≤ 16 * cst n b (pPart tp n rec b cs); omega, by show _ ≤ 64 * cst n b (pPart tp n rec b cs); omega⟩) hS (fun x _ h => Or.inr (show s.heap.size ≤ x by rw [show x = qT from h]; exact hlT)) (fun x h => Or.inr (show s.heap.size ≤ x by rw [show x = qT from h]; exact hlT)) (fun u t H1 locs ht hvm hw7 hNT hz9 hk hS => ?_)
          subst ht
          have hM := hM.but hK (q := (RX13, TX13, 1)) hT rfl (by decide +kernel) (fun e9 => hlo9 _ hlT (Or.inl e9)) (fun e9 => hlo9 _ hlT (Or.inr e9)) (fun x h1 h2 => hk x h1 h2)
          have hTl := hNT.lt
          have hzt := hS.1
          exact W.widen (k := 16 * cst n b (pPart tp n rec b cs)) (n := 64 * cst n b (pPart tp n rec b cs)) (by omega) (by omega) (vy_ret (W.aret (v := .ref qT) hx hb hret (Or.inl ⟨_, rfl⟩) (Or.inr ⟨_, rfl⟩) (fun t9 ht hW => ⟨⟨(nxt tp n b, cs ++ [10001 + v9]), qT, rfl, hR, (show RW _ _ _ _ _ _ _ _ _ _ _ t9 t9.heap from ht ▸ hM.moved hW.alike), (show EXq _ _ _ t9.heap.size t9.heap _ _ _ from ht ▸ EXq.seen hv6 hNT hlT hTl)⟩, hS.F ht⟩) hS.2.2 dX8_part_110 hlocks))
  · have h2 : ty tp n b = 2 := Classical.byContradiction (fun h9 => E3_nty hZ hty (by decide : 1 < 5) h9 c1)
    have hbl : b < n := ty_pos (by rw [h2]; decide)
    have hnx := nxt_lt (tp := tp) hbl
    have hF9 : pPart tp n rec b cs = eR (nnS tp n 0 9999 b) (fun v => .ok (nxt tp n b, cs ++ [v])) := by unfold pPart; rw [if_pos h2]
    have hK1 : 1 ≤ cst n b (pPart tp n rec b cs) := cst_pos (fun x9 h9 => by rw [hF9] at h9; obtain ⟨v9, -, h8⟩ := eR_ok h9; cases h8; exact hnx)
    have hsH := hS.1
    refine h_newO (ci := 9) (fs := [.int 0]) (C := RX12) (T := TX12) (N := 1) hx hb hts in_X12 tyX12 tyX12_ok hown (hts _ q1236) (hts _ q1237) (hts _ q136) hK hS rfl (fun j hj => by rcases (show j = 0 by omega) with rfl <;> rfl) (by show _ ≤ 16 * cst n b (pPart tp n rec b cs); omega) (by show _ ≤ 64 * cst n b (pPart tp n rec b cs); omega) dX8_part_10 (fun H2 hT oq hz hS => ?_)
    have hM := hM.kept oq
    obtain ⟨qT, hqT⟩ : ∃ q, H.size = q := ⟨_, rfl⟩
    rw [hqT] at hT hz ⊢
    have hlT : s.heap.size ≤ qT := by omega
    have hgT := hT.lt
    refine lv_dup hx hb dX8_part_13 rfl ?_
    refine lv_aload_n hx hb dX8_part_14 rfl (lv_at hl 0 rfl) ?_
    refine lv_iconst (v := 0) hx hb dX8_part_15 (by decide) ?_
    refine lv_sipush (v := 9999) hx hb dX8_part_16 (by decide) ?_
    refine Y_i (rest := [.ref qT, .ref qT]) ⟨hx, hb, hml, hown, hts⟩ hF hbn hM hS hA0 hAz htx het hlocks (metX8_number l hlt (D := D) (cA := cA) (z0 := z0) (E := E) (tp := tp) (n := n) (f := f) (rd := rd) (ha := ha) (tx := tx) (g := g) (b := b) (lo := 0) (hi := 9999) (by decide) (by decide)) (cwV 2 hts (lw_V q1155 q1157 qs23 q131 q1158) rfl rfl rfl (by decide +kernel) ⟨by show (14) + 1 ≤ 6 * d + 15; omega, by show 8 + (4 + 11) + (480) ≤ 40 * (6 * d + 15) + 600; omega⟩) (fun e9 he9 => by rw [hF9, he9]; rfl) rfl hl.1 rfl (Nat.le_of_ble_eq_true rfl) dX8_part_19 ⟨by show _ ≤ 16 * cst n b (pPart tp n rec b cs); omega, by show _ ≤ 64 * cst n b (pPart tp n rec b cs); omega⟩ (fun _ _ => by omega) (fun _ _ => by omega) (fun r9 u t H1 locs ht hvm hw hM hsz9 hk hS => ?_)
    subst ht
    obtain ⟨v9, hv9, rfl⟩ := hw
    have hM := hM.moved hvm.symm
    have hv8 := nnS_le hv9
    have hT := hT.kept (hk _ hT.lt (hlo9 _ (by omega)))
    have hsz9 := hT.lt
    refine va_callv (va_runI (As := [.int (nI v9)]) (rest := [.ref qT]) ⟨hx, hb, hml, hown, hts⟩ (metX12_init l (D := D) (cA := cA) (q := qT) (x := nI v9)) (cwI 1 hts (lw_meth q1240) rfl rfl rfl (hts _ q136) (hts _ q1238) (hts _ q1239) rfl (by decide +kernel) ⟨by show (2) + 1 ≤ 6 * d + 15; omega, by show 8 + (2 + 11) + (80) ≤ 40 * (6 * d + 15) + 600; omega⟩) ⟨NwU.blind.pc, fun U hU hW => ⟨rfl, NwU.go hT hK hZ.2.1 hU hW⟩⟩ rfl rfl hl.1 rfl (lv_room (Nat.le_of_ble_eq_true rfl)) dX8_part_22 ⟨by show _ ≤ 16 * cst n b (pPart tp n rec b cs); omega, by show _ ≤ 64 * cst n b (pPart tp n rec b cs); omega⟩) hS (fun x _ h => Or.inr (show s.heap.size ≤ x by rw [show x = qT from h]; exact hlT)) (fun x h => Or.inr (show s.heap.size ≤ x by rw [show x = qT from h]; exact hlT)) (fun u t H1 locs ht hvm hw7 hNT hz9 hk hS => ?_)
    subst ht
    have hM := hM.but hK (q := (RX12, TX12, 1)) hT rfl (by decide +kernel) (fun e9 => hlo9 _ hlT (Or.inl e9)) (fun e9 => hlo9 _ hlT (Or.inr e9)) (fun x h1 h2 => hk x h1 h2)
    have hR : pPart tp n rec b cs = .ok (nxt tp n b, cs ++ [v9]) := by rw [hF9, hv9]; rfl
    have hKv : cst n b (pPart tp n rec b cs) = nxt tp n b - b := by rw [hR]; rfl
    have hTl := hNT.lt
    have hzt := hS.1
    exact W.widen (k := 16 * cst n b (pPart tp n rec b cs)) (n := 64 * cst n b (pPart tp n rec b cs)) (by omega) (by omega) (vy_ret (W.aret (v := .ref qT) hx hb hret (Or.inl ⟨_, rfl⟩) (Or.inr ⟨_, rfl⟩) (fun t9 ht hW => ⟨⟨(nxt tp n b, cs ++ [v9]), qT, rfl, hR, (show RW _ _ _ _ _ _ _ _ _ _ _ t9 t9.heap from ht ▸ hM.moved hW.alike), (show EXq _ _ _ t9.heap.size t9.heap _ _ _ from ht ▸ EXq.num (by omega) hNT hlT hTl)⟩, hS.F ht⟩) hS.2.2 dX8_part_25 hlocks))
