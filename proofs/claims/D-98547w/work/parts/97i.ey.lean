/-! 97i.ey, printed by tools/mk_ey.py: the Reader reads products, sums, ands -/
set_option maxHeartbeats 4000000 in
set_option maxRecDepth 100000 in
theorem metX8_product (l : Launch) (hlt : l.stackTraces = false) {D : va_G} {cA : Nat → ClassId} {z0 : Nat} {E : Nat → Nat → Nat} {tp : Nat → Nat} {n : Nat} {f : Nat → Int32} {rd ha tx : Nat} {a d : Nat} (hd : a + d = 7) (h1d : 1 ≤ d) {rec : Nat → List Nat → EX} (hm : Mo n rec) (hsub : EXC l D cA z0 E tp n f rd ha tx yX8_part (ws_ yX8_part cX8_part 3 (some (.object "StrangeKnives$Expr"))) (6 * d + 15) a (pPart tp n rec) (fun b => a = 6 → exB tp n b = false)) : EXC l D cA z0 E tp n f rd ha tx yX8_product (ws_ yX8_product cX8_product 4 (some (.object "StrangeKnives$Expr"))) (6 * d + 16) a (pProd tp n rec) (fun b => a = 6 → exB tp n b = false) := by
  intro g b sz cs hbn h6
  refine vy_ofW (cc := cX8_product) (maxL := 4) (ret := (some (.object "StrangeKnives$Expr"))) (by decide) rfl ?_
  intro p e s m args below meth c s₁ B hml het hv
  obtain ⟨rfl, hv⟩ := hv
  have hx := B.exec
  have hb := B.bytes
  have hret := B.returns
  have hts := atoms_spec (ws := ws_ yX8_product cX8_product 4 (some (.object "StrangeKnives$Expr"))) B.pre
  have hts : ∀ w ∈ lw_all, w.before _ s = true := fun w h => hts w (List.mem_cons_of_mem _ h)
  have hown : s.vm.findClass RX8 = some m.cls := findClass_of_methodNamed B.named
  have hlocks := B.notSynchronized
  have hS : va_S (RA rd ha sz) s.heap s.heap [] := va_S.rf
  have hl := lv_entry ([.ref rd, .int (nI a)]) (n := 4) (Nat.le_of_ble_eq_true rfl)
  rw [lg_entry_eq]
  generalize (lg_sl ([.ref rd, .int (nI a)]) ++ List.replicate (4 - (lg_sl ([.ref rd, .int (nI a)])).length) Slot.unset).toArray = ls at hl ⊢
  have hl : lv_has ls 4 [(0, .ref rd), (1, .int (nI a))] := hl
  obtain ⟨hsz, hM, hF, hbn⟩ := hv
  subst hsz
  have hz6 := hF.2.1.2.2.2.2.2
  have hK := hF.1
  have hZ := hF.2.1
  have hn6 := hF.2.2.2.1
  have hA0 : ∀ q, RA rd ha s.heap.size q → RA rd ha s.heap.size q := fun q h => h
  have hAz : ∀ q, RA rd ha s.heap.size q → z0 ≤ q := RAz (H := s.heap) hF
  have hAZ : ∀ q, RA rd ha s.heap.size q → ZA z0 q := hAz
  have htx : ¬ RA rd ha s.heap.size tx := RAtx hF
  have hty := ty_le (tp := tp) (n := n) b
  have hrl : rd < s.heap.size ∧ ha < s.heap.size := by obtain ⟨v, lg, w, wv, h1, h2, -⟩ := hM; exact ⟨h1.lt, h2.lt⟩
  have hlo9 : ∀ x, s.heap.size ≤ x → ¬ R2 rd ha x := fun x h9 h8 => h8.elim (fun e9 => by omega) (fun e9 => by omega)
  refine W_h (fun H hk0 hz0 => ?_)
  have hM := hM.kept (H1 := H) (fun q _ => hk0 q)
  have hS : va_S (RA rd ha s.heap.size) s.heap H [] := ⟨Nat.le_of_eq hz0.symm, fun q _ _ => hk0 q, fun _ h => by cases h⟩
  have hms : Mo n (pPart tp n rec) := hm.part
  have hF9 : pProd tp n rec b cs = eR (pPart tp n rec b cs) (fun x => pLoop tp n (cdS tp n 42 10022 47 10023) (pPart tp n rec) (n + 1) x.1 x.2) := rfl
  have hK1 : cst n b (pPart tp n rec b cs) ≤ cst n b (pProd tp n rec b cs) := by rw [hF9]; exact cst_bind (fun x9 h9 => (hms _ _ _ hbn h9).2) (fun x9 y9 h9 h8 => (Mo.loop hms (n + 1) _ _ _ (hms _ _ _ hbn h9).2 h8).1)
  have loop : ¬ a = 6 → ∀ (fu b1 : Nat) (cs1 : List Nat) (q1 hi1 : Nat) (H : Heap) (locs : List Loc) (ls : Array Slot) (cells slots : Nat), n < b1 + fu → b1 ≤ n → b ≤ b1 → pProd tp n rec b cs = pLoop tp n (cdS tp n 42 10022 47 10023) (pPart tp n rec) fu b1 cs1 → cells ≤ 16 * (b1 - b) → slots ≤ 64 * (b1 - b) → RW D cA z0 E tp n rd ha tx g b1 s H → hi1 ≤ H.size → EXq D E s.heap.size hi1 H cs cs1 q1 → va_S (RA rd ha s.heap.size) s.heap H locs → lv_has ls 4 [(2, .ref q1), (0, .ref rd), (1, .int (nI a))] → W p l e (headSpec (ws_ yX8_product cX8_product 4 (some (.object "StrangeKnives$Expr"))) ({ frames := 6 * d + 16, cells := 16 * cst n b (pProd tp n rec b cs), slots := 64 * cst n b (pProd tp n rec b cs), locals := 40 * (6 * d + 16) + 600 })).room s m ([.ref rd, .int (nI a)] : List Value).toArray below meth c H locs cells slots (vy_MQ below (va_Qr (fun x : Nat × List Nat => pProd tp n rec b cs = .ok x) (fun x q t => RW D cA z0 E tp n rd ha tx g x.1 t t.heap ∧ EXq D E s.heap.size t.heap.size t.heap cs x.2 q) (RA rd ha s.heap.size)) (YX D (fun e => pProd tp n rec b cs = .error e) (RA rd ha s.heap.size)) ([.ref rd, .int (nI a)] : List Value).toArray s (16 * cst n b (pProd tp n rec b cs)) (64 * cst n b (pProd tp n rec b cs)) (RA rd ha s.heap.size)) (F0 m 6 ls []) := by
    intro ha6 fu
    induction fu with
    | zero => intro b1 cs1 q1 hi1 H locs ls cells slots hfu hbn; omega
    | succ fu ih =>
      intro b1 cs1 q1 hi1 H locs ls cells slots hfu hbn hbb hR9 hce hse hM hhi hX hS hl
      have hKb : cst n b1 (pLoop tp n (cdS tp n 42 10022 47 10023) (pPart tp n rec) (fu + 1) b1 cs1) + (b1 - b) ≤ cst n b (pProd tp n rec b cs) := by rw [hR9]; exact cst_ge hbb hbn (fun x9 h9 => (Mo.loop hms _ _ _ _ hbn h9).1)
      have more : ∀ (ch c0 : Nat) (ac : Int32 × Int32), ac ∈ xops → ac.1 = nI ch → sgN c0 = ac.2 → (narrow .char (.int (nI ch)) = .int (nI ch) ∧ fits .char (.int (nI ch)) = true) → sgS tp n ch b1 = true → (cdS tp n 42 10022 47 10023) b1 = some c0 → b1 < n → ∀ (H : Heap) (locs : List Loc) (ls : Array Slot), RW D cA z0 E tp n rd ha tx g b1 s H → hi1 ≤ H.size → EXq D E s.heap.size hi1 H cs cs1 q1 → va_S (RA rd ha s.heap.size) s.heap H locs → lv_has ls 4 [(2, .ref q1), (0, .ref rd), (1, .int (nI a))] → W p l e (headSpec (ws_ yX8_product cX8_product 4 (some (.object "StrangeKnives$Expr"))) ({ frames := 6 * d + 16, cells := 16 * cst n b (pProd tp n rec b cs), slots := 64 * cst n b (pProd tp n rec b cs), locals := 40 * (6 * d + 16) + 600 })).room s m ([.ref rd, .int (nI a)] : List Value).toArray below meth c H locs cells slots (vy_MQ below (va_Qr (fun x : Nat × List Nat => pProd tp n rec b cs = .ok x) (fun x q t => RW D cA z0 E tp n rd ha tx g x.1 t t.heap ∧ EXq D E s.heap.size t.heap.size t.heap cs x.2 q) (RA rd ha s.heap.size)) (YX D (fun e => pProd tp n rec b cs = .error e) (RA rd ha s.heap.size)) ([.ref rd, .int (nI a)] : List Value).toArray s (16 * cst n b (pProd tp n rec b cs)) (64 * cst n b (pProd tp n rec b cs)) (RA rd ha s.heap.size)) (F0 m 26 ls []) := by
        intro ch c9 ac hop hac1 hac2 hcn hsg hcd hbl H locs ls hM hhi hX hS hl
        have hnx := nxt_lt (tp := tp) hbl
        have hR8 : pLoop tp n (cdS tp n 42 10022 47 10023) (pPart tp n rec) (fu + 1) b1 cs1 = eR (pPart tp n rec (nxt tp n b1) cs1) (fun x => pLoop tp n (cdS tp n 42 10022 47 10023) (pPart tp n rec) fu x.1 (x.2 ++ [c9])) := by
          show (match (cdS tp n 42 10022 47 10023) b1 with | none => _ | some c => _) = _
          rw [hcd]
        have hK2 : cst n (nxt tp n b1) (pPart tp n rec (nxt tp n b1) cs1) + (nxt tp n b1 - b1) ≤ cst n b1 (pLoop tp n (cdS tp n 42 10022 47 10023) (pPart tp n rec) (fu + 1) b1 cs1) := by
          rw [hR8]
          exact Nat.le_trans (cst_ge (by omega) (nxt_le hbn).2 (fun x9 h9 => (hms _ _ _ (nxt_le hbn).2 h9).1)) (cst_bind (fun x9 h9 => (hms _ _ _ (nxt_le hbn).2 h9).2) (fun x9 y9 h9 h8 => (Mo.loop hms fu _ _ _ (hms _ _ _ (nxt_le hbn).2 h9).2 h8).1))
        obtain ⟨v, lg, w, wv, hr, hh, hnum, hW, hwz⟩ := id hM
        refine lv_aload_n hx hb dX8_product_26 rfl (lv_at hl 1 rfl) ?_
        refine h_get (C := RX8) (T := TX8) (N := 9) (ci := 6) (v := .ref w) hx hb hts in_X8 hown hK hr rfl 7 (by decide) (hts _ q1084) (fun _ h9 => h9) rfl dX8_product_27 ?_
        refine lv_iconst (v := nI 0) hx hb dX8_product_30 (by decide) ?_
        have hW9 : SR NoA s H w wv [ch] := by rw [← sg_wd hsg]; exact hW.narrow (fun q h => h.elim)
        have hC9 : SC NoA s H := SC.narrow (A := RA rd ha s.heap.size) (SC.kept (SC.narrow (A := ZA z0) ⟨hZ.1.2.1, hZ.1.2.2.2.2.2.2.2.2⟩ hAZ) hS.2.1) (fun q h => h.elim)
        refine R_callI (As := [.int (nI 0)]) (rest := []) (C := "java/lang/String") ⟨hx, hb, hml, hown, hts⟩ hS (metJ9_charAt l (q := w) (v := wv) (tx := [ch]) (i := 0) Nat.one_pos) SRU.blind (fun U hU hW => ⟨by rw [hU]; exact hW9.moved hW.alike, by rw [hU]; exact hC9.moved hW.alike⟩) (by obtain ⟨cell, g1, g2, g3, -⟩ := hW9.1; exact ⟨cell, g1, g2, g3⟩) (cwV 1 hts (lw_V q1287 q1288 q1289 q115 q1290) rfl rfl rfl (by decide +kernel) ⟨by show (7) + 1 ≤ 6 * d + 16; omega, by show 8 + (2 + 11) + (220) ≤ 40 * (6 * d + 16) + 600; omega⟩) rfl hl.1 rfl (Nat.le_of_ble_eq_true rfl) dX8_product_31 ⟨by show _ ≤ 16 * cst n b (pProd tp n rec b cs); omega, by show _ ≤ 64 * cst n b (pProd tp n rec b cs); omega⟩ (fun r9 H1 locs hw hk hS => ?_)
        subst hw
        have hsz9 := size_le hk
        have hM := hM.kept hk
        have hX := hX.kept (fun x h1 h2 h3 => hk x h3)
        rw [show ([ch] : List Nat).getD 0 0 = ch from rfl]
        refine lv_istore_n (lv' := [(3, .int (nI ch)), (2, .ref q1), (0, .ref rd), (1, .int (nI a))]) hx hb dX8_product_34 rfl hl (by decide) rfl (fun ls hl => ?_)
        refine lv_aload_n hx hb dX8_product_35 rfl (lv_at hl 2 rfl) ?_
        refine R_go (rest := []) ⟨hx, hb, hml, hown, hts⟩ hF hbn hM hS hA0 hAz htx q1010 ⟨by show _ ≤ 6 * d + 16; omega, by show _ ≤ 40 * (6 * d + 16) + 600; omega⟩ hl.1 (Nat.le_of_ble_eq_true rfl) dX8_product_36 ⟨by show _ ≤ 16 * cst n b (pProd tp n rec b cs); omega, by show _ ≤ 64 * cst n b (pProd tp n rec b cs); omega⟩ (fun H1 locs hM hsz9 hk hS => ?_)
        have hX := hX.kept (fun x h1 h2 h3 => hk x h3 (hlo9 x (by omega)))
        have hbn0 := hbn
        have hbn := (nxt_le (tp := tp) hbn).2
        have hsH := hS.1
        refine h_newO (ci := 11) (fs := [.int 0, .null, .null]) (C := RX14) (T := TX14) (N := 3) hx hb hts in_X14 tyX14 tyX14_ok hown (hts _ q1302) (hts _ q1303) (hts _ q138) hK hS rfl (fun j hj => by rcases (show j = 0 ∨ j = 1 ∨ j = 2 by omega) with rfl | rfl | rfl <;> rfl) (by show _ ≤ 16 * cst n b (pProd tp n rec b cs); omega) (by show _ ≤ 64 * cst n b (pProd tp n rec b cs); omega) dX8_product_39 (fun H2 hT oq hz hS => ?_)
        have hM := hM.kept oq
        have hX := hX.kept (fun x h1 h2 h3 => oq x h3)
        obtain ⟨qT, hqT⟩ : ∃ q, H1.size = q := ⟨_, rfl⟩
        rw [hqT] at hT hz ⊢
        have hlT : s.heap.size ≤ qT := by omega
        have hgT := hT.lt
        refine lv_dup hx hb dX8_product_42 rfl ?_
        refine lv_iload_n hx hb dX8_product_43 rfl (lv_at hl 0 rfl) ?_
        refine lv_aload_n hx hb dX8_product_44 rfl (lv_at hl 1 rfl) ?_
        refine lv_aload_n hx hb dX8_product_45 rfl (lv_at hl 2 rfl) ?_
        refine lv_iload_n hx hb dX8_product_46 rfl (lv_at hl 3 rfl) ?_
        refine Y_r (rest := [.ref q1, .int (nI ch), .ref qT, .ref qT]) ⟨hx, hb, hml, hown, hts⟩ hF hbn hM hS hA0 hAz htx het hlocks (hsub g (nxt tp n b1) _ cs1 hbn (fun h9 => absurd h9 ha6)) (cwV 1 hts (lw_V q1232 q1234 qs32 q131 q1235) rfl rfl rfl (by decide +kernel) ⟨by show (6 * d + 15) + 1 ≤ 6 * d + 16; omega, by show 8 + (3 + 11) + (40 * (6 * d + 15) + 600) ≤ 40 * (6 * d + 16) + 600; omega⟩) (fun e9 he9 => by rw [hR9, hR8, he9]; rfl) rfl hl.1 rfl (Nat.le_of_ble_eq_true rfl) dX8_product_47 ⟨by show _ ≤ 16 * cst n b (pProd tp n rec b cs); omega, by show _ ≤ 64 * cst n b (pProd tp n rec b cs); omega⟩ (fun _ _ => by omega) (fun _ _ => by omega) (fun x9 qE t H1 locs ht hvm hw hB hsz9 hk hS => ?_)
        subst ht
        obtain ⟨hM, hXqE⟩ := hB
        have hM := hM.moved hvm.symm
        have hT := hT.kept (hk _ hT.lt (hlo9 _ (by omega)))
        have hX := hX.kept (fun x h1 h2 h3 => hk x h3 (hlo9 x (by omega)))
        have hmo := hms _ _ _ hbn hw
        have hkE : cst n (nxt tp n b1) (pPart tp n rec (nxt tp n b1) cs1) = x9.1 - nxt tp n b1 := by rw [hw]; rfl
        have hbn := hmo.2
        have hsz9 := hT.lt
        refine va_callv (va_runI (As := [.int (nI ch), .ref q1, .ref qE]) (rest := [.ref qT]) ⟨hx, hb, hml, hown, hts⟩ (metX14_init l (D := D) (cA := cA) (q := qT) (ac := nI ch) (x := q1) (y := qE) hcn) (cwI 3 hts (lw_meth q1306) rfl rfl rfl (hts _ q138) (hts _ q1304) (hts _ q1305) rfl (by decide +kernel) ⟨by show (2) + 1 ≤ 6 * d + 16; omega, by show 8 + (4 + 11) + (80) ≤ 40 * (6 * d + 16) + 600; omega⟩) ⟨NwU.blind.pc, fun U hU hW => ⟨rfl, NwU.go hT hK hZ.2.1 hU hW⟩⟩ rfl rfl hl.1 rfl (lv_room (Nat.le_of_ble_eq_true rfl)) dX8_product_50 ⟨by show _ ≤ 16 * cst n b (pProd tp n rec b cs); omega, by show _ ≤ 64 * cst n b (pProd tp n rec b cs); omega⟩) hS (fun x _ h => Or.inr (show s.heap.size ≤ x by rw [show x = qT from h]; exact hlT)) (fun x h => Or.inr (show s.heap.size ≤ x by rw [show x = qT from h]; exact hlT)) (fun u t H1 locs ht hvm hw7 hNT hz9 hk hS => ?_)
        subst ht
        have hM := hM.but hK (q := (RX14, TX14, 3)) hT rfl (by decide +kernel) (fun e9 => hlo9 _ hlT (Or.inl e9)) (fun e9 => hlo9 _ hlT (Or.inr e9)) (fun x h1 h2 => hk x h1 h2)
        have hX := hX.kept (fun x h1 h2 h3 => hk x h3 (fun e9 => by have e8 : x = qT := e9; omega))
        have hXqE := hXqE.kept (fun x h1 h2 h3 => hk x h3 (fun e9 => by have e8 : x = qT := e9; omega))
        have hTl : qT < t.heap.size := hNT.lt
        rw [← hac1] at hNT
        refine lv_astore_n (lv' := [(2, .ref qT), (3, .int (nI ch)), (0, .ref rd), (1, .int (nI a))]) hx hb dX8_product_53 rfl hl (by decide) rfl (fun ls hl => ?_)
        refine lv_goto (tgt := 6) hx hb dX8_product_54 (by decide) ?_
        exact ih x9.1 (x9.2 ++ [c9]) qT _ _ _ _ _ _ (by omega) hbn (by omega) (by rw [hR9, hR8, hw]; rfl) (by omega) (by omega) hM (Nat.le_refl _) (EXq.both hop hac2 (hX.wide (Nat.le_refl _) (by omega)) (hXqE.wide (by omega) (by omega)) hNT hlT hTl) hS (lv_sub hl [0, 2, 3] rfl)
      refine lv_aload_n hx hb dX8_product_6 rfl (lv_at hl 1 rfl) ?_
      refine va_ldcSw hx hb hown (hZ.2.2.1 _ (List.mem_of_getElem? (i := 19) rfl)) dX8_product_7 ?_
      refine R_is (rest := []) ⟨hx, hb, hml, hown, hts⟩ hF hbn hM hS hAz htx (i := 19) (by decide) q1112 ⟨by show _ ≤ 6 * d + 16; omega, by show _ ≤ 40 * (6 * d + 16) + 600; omega⟩ hl.1 (Nat.le_of_ble_eq_true rfl) dX8_product_10 ⟨by show _ ≤ 16 * cst n b (pProd tp n rec b cs); omega, by show _ ≤ 64 * cst n b (pProd tp n rec b cs); omega⟩ (fun H1 locs hM hk hS => ?_)
      have hsz9 := size_le hk
      have hX := hX.kept (fun x h1 h2 h3 => hk x h3)
      rw [isR_sg (ch := 42) (by rfl) (by decide)]
      generalize hr9 : b2i (sgS tp n 42 b1) = r9
      rcases Bool.eq_false_or_eq_true (sgS tp n 42 b1) with hq0 | hq0
      · rw [hq0] at hr9
        subst hr9
        refine lv_if_ne (tgt := 26) hx hb dX8_product_13 (by decide) (fun c9 => ?_) (fun c9 => absurd c9 (by decide : ¬ b2i true = 0))
        exact more 42 10022 ((42, -22)) (by decide +kernel) (by decide +kernel) (by decide +kernel) (by decide +kernel) hq0 (by unfold cdS; rw [hq0]; rfl) (sg_lt hq0) _ _ _ hM (by omega) hX hS hl
      · rw [hq0] at hr9
        subst hr9
        refine lv_if_ne (tgt := 26) hx hb dX8_product_13 (by decide) (fun c9 => absurd (rfl : b2i false = 0) c9) (fun c9 => ?_)
        refine lv_aload_n hx hb dX8_product_16 rfl (lv_at hl 1 rfl) ?_
        refine va_ldcSw hx hb hown (hZ.2.2.1 _ (List.mem_of_getElem? (i := 20) rfl)) dX8_product_17 ?_
        refine R_is (rest := []) ⟨hx, hb, hml, hown, hts⟩ hF hbn hM hS hAz htx (i := 20) (by decide) q1112 ⟨by show _ ≤ 6 * d + 16; omega, by show _ ≤ 40 * (6 * d + 16) + 600; omega⟩ hl.1 (Nat.le_of_ble_eq_true rfl) dX8_product_20 ⟨by show _ ≤ 16 * cst n b (pProd tp n rec b cs); omega, by show _ ≤ 64 * cst n b (pProd tp n rec b cs); omega⟩ (fun H1 locs hM hk hS => ?_)
        have hsz9 := size_le hk
        have hX := hX.kept (fun x h1 h2 h3 => hk x h3)
        rw [isR_sg (ch := 47) (by rfl) (by decide)]
        generalize hr9 : b2i (sgS tp n 47 b1) = r9
        rcases Bool.eq_false_or_eq_true (sgS tp n 47 b1) with hq1 | hq1
        · rw [hq1] at hr9
          subst hr9
          refine lv_if_eq (tgt := 57) hx hb dX8_product_23 (by decide) (fun c9 => absurd c9 (by decide : ¬ b2i true = 0)) (fun c9 => ?_)
          exact more 47 10023 ((47, -23)) (by decide +kernel) (by decide +kernel) (by decide +kernel) (by decide +kernel) hq1 (by unfold cdS; rw [hq0, hq1]; rfl) (sg_lt hq1) _ _ _ hM (by omega) hX hS hl
        · rw [hq1] at hr9
          subst hr9
          refine lv_if_eq (tgt := 57) hx hb dX8_product_23 (by decide) (fun c9 => ?_) (fun c9 => absurd (rfl : b2i false = 0) c9)
          refine lv_aload_n hx hb dX8_product_57 rfl (lv_at hl 0 rfl) ?_
          have hR : pProd tp n rec b cs = .ok (b1, cs1) := by
            rw [hR9]
            show (match (cdS tp n 42 10022 47 10023) b1 with | none => _ | some c => _) = _
            rw [show (cdS tp n 42 10022 47 10023) b1 = none from by unfold cdS; rw [hq0, hq1]; rfl]
          have hzt := hS.1
          exact W.widen (k := 16 * cst n b (pProd tp n rec b cs)) (n := 64 * cst n b (pProd tp n rec b cs)) (by omega) (by omega) (vy_ret (W.aret (v := .ref q1) hx hb hret (Or.inl ⟨_, rfl⟩) (Or.inr ⟨_, rfl⟩) (fun t9 ht hW => ⟨⟨(b1, cs1), q1, rfl, hR, (show RW _ _ _ _ _ _ _ _ _ _ _ t9 t9.heap from ht ▸ hM.moved hW.alike), (show EXq _ _ _ t9.heap.size t9.heap _ _ _ from ht ▸ hX.wide (Nat.le_refl _) (by omega))⟩, hS.F ht⟩) hS.2.2 dX8_product_58 hlocks))
  refine lv_aload_n hx hb dX8_product_0 rfl (lv_at hl 0 rfl) ?_
  refine lv_iload_n hx hb dX8_product_1 rfl (lv_at hl 1 rfl) ?_
  have hS0 := hS
  refine Y_r (rest := []) ⟨hx, hb, hml, hown, hts⟩ hF hbn hM hS hA0 hAz htx het hlocks (hsub g b _ cs hbn h6) (cwV 1 hts (lw_V q1232 q1234 qs32 q131 q1235) rfl rfl rfl (by decide +kernel) ⟨by show (6 * d + 15) + 1 ≤ 6 * d + 16; omega, by show 8 + (3 + 11) + (40 * (6 * d + 15) + 600) ≤ 40 * (6 * d + 16) + 600; omega⟩) (fun e9 he9 => by rw [hF9, he9]; rfl) rfl hl.1 rfl (Nat.le_of_ble_eq_true rfl) dX8_product_2 ⟨by show _ ≤ 16 * cst n b (pProd tp n rec b cs); omega, by show _ ≤ 64 * cst n b (pProd tp n rec b cs); omega⟩ (fun _ _ => by omega) (fun _ _ => by omega) (fun x9 qE t H1 locs ht hvm hw hB hsz9 hk hS => ?_)
  subst ht
  obtain ⟨hM, hXqE⟩ := hB
  have hM := hM.moved hvm.symm
  have hmo := hms _ _ _ hbn hw
  have hkE : cst n b (pPart tp n rec b cs) = x9.1 - b := by rw [hw]; rfl
  have ha6 : ¬ a = 6 := fun h9 => by rw [bad_part (h6 h9)] at hw; cases hw
  refine lv_astore_n (lv' := [(2, .ref qE), (0, .ref rd), (1, .int (nI a))]) hx hb dX8_product_5 rfl hl (by decide) rfl (fun ls hl => ?_)
  exact loop ha6 (n + 1) x9.1 x9.2 qE _ _ _ _ _ _ (by omega) hmo.2 hmo.1 (by rw [hF9, hw]; rfl) (by omega) (by omega) hM (Nat.le_refl _) (hXqE.wide hS0.1 (Nat.le_refl _)) hS hl
set_option maxHeartbeats 4000000 in
set_option maxRecDepth 100000 in
theorem metX8_sum (l : Launch) (hlt : l.stackTraces = false) {D : va_G} {cA : Nat → ClassId} {z0 : Nat} {E : Nat → Nat → Nat} {tp : Nat → Nat} {n : Nat} {f : Nat → Int32} {rd ha tx : Nat} {a d : Nat} (hd : a + d = 7) (h1d : 1 ≤ d) {rec : Nat → List Nat → EX} (hm : Mo n rec) (hsub : EXC l D cA z0 E tp n f rd ha tx yX8_product (ws_ yX8_product cX8_product 4 (some (.object "StrangeKnives$Expr"))) (6 * d + 16) a (pProd tp n rec) (fun b => a = 6 → exB tp n b = false)) : EXC l D cA z0 E tp n f rd ha tx yX8_sum (ws_ yX8_sum cX8_sum 4 (some (.object "StrangeKnives$Expr"))) (6 * d + 17) a (pSum tp n rec) (fun b => a = 6 → exB tp n b = false) := by
  intro g b sz cs hbn h6
  refine vy_ofW (cc := cX8_sum) (maxL := 4) (ret := (some (.object "StrangeKnives$Expr"))) (by decide) rfl ?_
  intro p e s m args below meth c s₁ B hml het hv
  obtain ⟨rfl, hv⟩ := hv
  have hx := B.exec
  have hb := B.bytes
  have hret := B.returns
  have hts := atoms_spec (ws := ws_ yX8_sum cX8_sum 4 (some (.object "StrangeKnives$Expr"))) B.pre
  have hts : ∀ w ∈ lw_all, w.before _ s = true := fun w h => hts w (List.mem_cons_of_mem _ h)
  have hown : s.vm.findClass RX8 = some m.cls := findClass_of_methodNamed B.named
  have hlocks := B.notSynchronized
  have hS : va_S (RA rd ha sz) s.heap s.heap [] := va_S.rf
  have hl := lv_entry ([.ref rd, .int (nI a)]) (n := 4) (Nat.le_of_ble_eq_true rfl)
  rw [lg_entry_eq]
  generalize (lg_sl ([.ref rd, .int (nI a)]) ++ List.replicate (4 - (lg_sl ([.ref rd, .int (nI a)])).length) Slot.unset).toArray = ls at hl ⊢
  have hl : lv_has ls 4 [(0, .ref rd), (1, .int (nI a))] := hl
  obtain ⟨hsz, hM, hF, hbn⟩ := hv
  subst hsz
  have hz6 := hF.2.1.2.2.2.2.2
  have hK := hF.1
  have hZ := hF.2.1
  have hn6 := hF.2.2.2.1
  have hA0 : ∀ q, RA rd ha s.heap.size q → RA rd ha s.heap.size q := fun q h => h
  have hAz : ∀ q, RA rd ha s.heap.size q → z0 ≤ q := RAz (H := s.heap) hF
  have hAZ : ∀ q, RA rd ha s.heap.size q → ZA z0 q := hAz
  have htx : ¬ RA rd ha s.heap.size tx := RAtx hF
  have hty := ty_le (tp := tp) (n := n) b
  have hrl : rd < s.heap.size ∧ ha < s.heap.size := by obtain ⟨v, lg, w, wv, h1, h2, -⟩ := hM; exact ⟨h1.lt, h2.lt⟩
  have hlo9 : ∀ x, s.heap.size ≤ x → ¬ R2 rd ha x := fun x h9 h8 => h8.elim (fun e9 => by omega) (fun e9 => by omega)
  refine W_h (fun H hk0 hz0 => ?_)
  have hM := hM.kept (H1 := H) (fun q _ => hk0 q)
  have hS : va_S (RA rd ha s.heap.size) s.heap H [] := ⟨Nat.le_of_eq hz0.symm, fun q _ _ => hk0 q, fun _ h => by cases h⟩
  have hms : Mo n (pProd tp n rec) := hm.prod
  have hF9 : pSum tp n rec b cs = eR (pProd tp n rec b cs) (fun x => pLoop tp n (cdS tp n 43 10020 45 10021) (pProd tp n rec) (n + 1) x.1 x.2) := rfl
  have hK1 : cst n b (pProd tp n rec b cs) ≤ cst n b (pSum tp n rec b cs) := by rw [hF9]; exact cst_bind (fun x9 h9 => (hms _ _ _ hbn h9).2) (fun x9 y9 h9 h8 => (Mo.loop hms (n + 1) _ _ _ (hms _ _ _ hbn h9).2 h8).1)
  have loop : ¬ a = 6 → ∀ (fu b1 : Nat) (cs1 : List Nat) (q1 hi1 : Nat) (H : Heap) (locs : List Loc) (ls : Array Slot) (cells slots : Nat), n < b1 + fu → b1 ≤ n → b ≤ b1 → pSum tp n rec b cs = pLoop tp n (cdS tp n 43 10020 45 10021) (pProd tp n rec) fu b1 cs1 → cells ≤ 16 * (b1 - b) → slots ≤ 64 * (b1 - b) → RW D cA z0 E tp n rd ha tx g b1 s H → hi1 ≤ H.size → EXq D E s.heap.size hi1 H cs cs1 q1 → va_S (RA rd ha s.heap.size) s.heap H locs → lv_has ls 4 [(2, .ref q1), (0, .ref rd), (1, .int (nI a))] → W p l e (headSpec (ws_ yX8_sum cX8_sum 4 (some (.object "StrangeKnives$Expr"))) ({ frames := 6 * d + 17, cells := 16 * cst n b (pSum tp n rec b cs), slots := 64 * cst n b (pSum tp n rec b cs), locals := 40 * (6 * d + 17) + 600 })).room s m ([.ref rd, .int (nI a)] : List Value).toArray below meth c H locs cells slots (vy_MQ below (va_Qr (fun x : Nat × List Nat => pSum tp n rec b cs = .ok x) (fun x q t => RW D cA z0 E tp n rd ha tx g x.1 t t.heap ∧ EXq D E s.heap.size t.heap.size t.heap cs x.2 q) (RA rd ha s.heap.size)) (YX D (fun e => pSum tp n rec b cs = .error e) (RA rd ha s.heap.size)) ([.ref rd, .int (nI a)] : List Value).toArray s (16 * cst n b (pSum tp n rec b cs)) (64 * cst n b (pSum tp n rec b cs)) (RA rd ha s.heap.size)) (F0 m 6 ls []) := by
    intro ha6 fu
    induction fu with
    | zero => intro b1 cs1 q1 hi1 H locs ls cells slots hfu hbn; omega
    | succ fu ih =>
      intro b1 cs1 q1 hi1 H locs ls cells slots hfu hbn hbb hR9 hce hse hM hhi hX hS hl
      have hKb : cst n b1 (pLoop tp n (cdS tp n 43 10020 45 10021) (pProd tp n rec) (fu + 1) b1 cs1) + (b1 - b) ≤ cst n b (pSum tp n rec b cs) := by rw [hR9]; exact cst_ge hbb hbn (fun x9 h9 => (Mo.loop hms _ _ _ _ hbn h9).1)
      have more : ∀ (ch c0 : Nat) (ac : Int32 × Int32), ac ∈ xops → ac.1 = nI ch → sgN c0 = ac.2 → (narrow .char (.int (nI ch)) = .int (nI ch) ∧ fits .char (.int (nI ch)) = true) → sgS tp n ch b1 = true → (cdS tp n 43 10020 45 10021) b1 = some c0 → b1 < n → ∀ (H : Heap) (locs : List Loc) (ls : Array Slot), RW D cA z0 E tp n rd ha tx g b1 s H → hi1 ≤ H.size → EXq D E s.heap.size hi1 H cs cs1 q1 → va_S (RA rd ha s.heap.size) s.heap H locs → lv_has ls 4 [(2, .ref q1), (0, .ref rd), (1, .int (nI a))] → W p l e (headSpec (ws_ yX8_sum cX8_sum 4 (some (.object "StrangeKnives$Expr"))) ({ frames := 6 * d + 17, cells := 16 * cst n b (pSum tp n rec b cs), slots := 64 * cst n b (pSum tp n rec b cs), locals := 40 * (6 * d + 17) + 600 })).room s m ([.ref rd, .int (nI a)] : List Value).toArray below meth c H locs cells slots (vy_MQ below (va_Qr (fun x : Nat × List Nat => pSum tp n rec b cs = .ok x) (fun x q t => RW D cA z0 E tp n rd ha tx g x.1 t t.heap ∧ EXq D E s.heap.size t.heap.size t.heap cs x.2 q) (RA rd ha s.heap.size)) (YX D (fun e => pSum tp n rec b cs = .error e) (RA rd ha s.heap.size)) ([.ref rd, .int (nI a)] : List Value).toArray s (16 * cst n b (pSum tp n rec b cs)) (64 * cst n b (pSum tp n rec b cs)) (RA rd ha s.heap.size)) (F0 m 26 ls []) := by
        intro ch c9 ac hop hac1 hac2 hcn hsg hcd hbl H locs ls hM hhi hX hS hl
        have hnx := nxt_lt (tp := tp) hbl
        have hR8 : pLoop tp n (cdS tp n 43 10020 45 10021) (pProd tp n rec) (fu + 1) b1 cs1 = eR (pProd tp n rec (nxt tp n b1) cs1) (fun x => pLoop tp n (cdS tp n 43 10020 45 10021) (pProd tp n rec) fu x.1 (x.2 ++ [c9])) := by
          show (match (cdS tp n 43 10020 45 10021) b1 with | none => _ | some c => _) = _
          rw [hcd]
        have hK2 : cst n (nxt tp n b1) (pProd tp n rec (nxt tp n b1) cs1) + (nxt tp n b1 - b1) ≤ cst n b1 (pLoop tp n (cdS tp n 43 10020 45 10021) (pProd tp n rec) (fu + 1) b1 cs1) := by
          rw [hR8]
          exact Nat.le_trans (cst_ge (by omega) (nxt_le hbn).2 (fun x9 h9 => (hms _ _ _ (nxt_le hbn).2 h9).1)) (cst_bind (fun x9 h9 => (hms _ _ _ (nxt_le hbn).2 h9).2) (fun x9 y9 h9 h8 => (Mo.loop hms fu _ _ _ (hms _ _ _ (nxt_le hbn).2 h9).2 h8).1))
        obtain ⟨v, lg, w, wv, hr, hh, hnum, hW, hwz⟩ := id hM
        refine lv_aload_n hx hb dX8_sum_26 rfl (lv_at hl 1 rfl) ?_
        refine h_get (C := RX8) (T := TX8) (N := 9) (ci := 6) (v := .ref w) hx hb hts in_X8 hown hK hr rfl 7 (by decide) (hts _ q1084) (fun _ h9 => h9) rfl dX8_sum_27 ?_
        refine lv_iconst (v := nI 0) hx hb dX8_sum_30 (by decide) ?_
        have hW9 : SR NoA s H w wv [ch] := by rw [← sg_wd hsg]; exact hW.narrow (fun q h => h.elim)
        have hC9 : SC NoA s H := SC.narrow (A := RA rd ha s.heap.size) (SC.kept (SC.narrow (A := ZA z0) ⟨hZ.1.2.1, hZ.1.2.2.2.2.2.2.2.2⟩ hAZ) hS.2.1) (fun q h => h.elim)
        refine R_callI (As := [.int (nI 0)]) (rest := []) (C := "java/lang/String") ⟨hx, hb, hml, hown, hts⟩ hS (metJ9_charAt l (q := w) (v := wv) (tx := [ch]) (i := 0) Nat.one_pos) SRU.blind (fun U hU hW => ⟨by rw [hU]; exact hW9.moved hW.alike, by rw [hU]; exact hC9.moved hW.alike⟩) (by obtain ⟨cell, g1, g2, g3, -⟩ := hW9.1; exact ⟨cell, g1, g2, g3⟩) (cwV 1 hts (lw_V q1287 q1288 q1289 q115 q1290) rfl rfl rfl (by decide +kernel) ⟨by show (7) + 1 ≤ 6 * d + 17; omega, by show 8 + (2 + 11) + (220) ≤ 40 * (6 * d + 17) + 600; omega⟩) rfl hl.1 rfl (Nat.le_of_ble_eq_true rfl) dX8_sum_31 ⟨by show _ ≤ 16 * cst n b (pSum tp n rec b cs); omega, by show _ ≤ 64 * cst n b (pSum tp n rec b cs); omega⟩ (fun r9 H1 locs hw hk hS => ?_)
        subst hw
        have hsz9 := size_le hk
        have hM := hM.kept hk
        have hX := hX.kept (fun x h1 h2 h3 => hk x h3)
        rw [show ([ch] : List Nat).getD 0 0 = ch from rfl]
        refine lv_istore_n (lv' := [(3, .int (nI ch)), (2, .ref q1), (0, .ref rd), (1, .int (nI a))]) hx hb dX8_sum_34 rfl hl (by decide) rfl (fun ls hl => ?_)
        refine lv_aload_n hx hb dX8_sum_35 rfl (lv_at hl 2 rfl) ?_
        refine R_go (rest := []) ⟨hx, hb, hml, hown, hts⟩ hF hbn hM hS hA0 hAz htx q1010 ⟨by show _ ≤ 6 * d + 17; omega, by show _ ≤ 40 * (6 * d + 17) + 600; omega⟩ hl.1 (Nat.le_of_ble_eq_true rfl) dX8_sum_36 ⟨by show _ ≤ 16 * cst n b (pSum tp n rec b cs); omega, by show _ ≤ 64 * cst n b (pSum tp n rec b cs); omega⟩ (fun H1 locs hM hsz9 hk hS => ?_)
        have hX := hX.kept (fun x h1 h2 h3 => hk x h3 (hlo9 x (by omega)))
        have hbn0 := hbn
        have hbn := (nxt_le (tp := tp) hbn).2
        have hsH := hS.1
        refine h_newO (ci := 11) (fs := [.int 0, .null, .null]) (C := RX14) (T := TX14) (N := 3) hx hb hts in_X14 tyX14 tyX14_ok hown (hts _ q1302) (hts _ q1303) (hts _ q138) hK hS rfl (fun j hj => by rcases (show j = 0 ∨ j = 1 ∨ j = 2 by omega) with rfl | rfl | rfl <;> rfl) (by show _ ≤ 16 * cst n b (pSum tp n rec b cs); omega) (by show _ ≤ 64 * cst n b (pSum tp n rec b cs); omega) dX8_sum_39 (fun H2 hT oq hz hS => ?_)
        have hM := hM.kept oq
        have hX := hX.kept (fun x h1 h2 h3 => oq x h3)
        obtain ⟨qT, hqT⟩ : ∃ q, H1.size = q := ⟨_, rfl⟩
        rw [hqT] at hT hz ⊢
        have hlT : s.heap.size ≤ qT := by omega
        have hgT := hT.lt
        refine lv_dup hx hb dX8_sum_42 rfl ?_
        refine lv_iload_n hx hb dX8_sum_43 rfl (lv_at hl 0 rfl) ?_
        refine lv_aload_n hx hb dX8_sum_44 rfl (lv_at hl 1 rfl) ?_
        refine lv_aload_n hx hb dX8_sum_45 rfl (lv_at hl 2 rfl) ?_
        refine lv_iload_n hx hb dX8_sum_46 rfl (lv_at hl 3 rfl) ?_
        refine Y_r (rest := [.ref q1, .int (nI ch), .ref qT, .ref qT]) ⟨hx, hb, hml, hown, hts⟩ hF hbn hM hS hA0 hAz htx het hlocks (hsub g (nxt tp n b1) _ cs1 hbn (fun h9 => absurd h9 ha6)) (cwV 1 hts (lw_V q1228 q1230 qs31 q131 q1231) rfl rfl rfl (by decide +kernel) ⟨by show (6 * d + 16) + 1 ≤ 6 * d + 17; omega, by show 8 + (4 + 11) + (40 * (6 * d + 16) + 600) ≤ 40 * (6 * d + 17) + 600; omega⟩) (fun e9 he9 => by rw [hR9, hR8, he9]; rfl) rfl hl.1 rfl (Nat.le_of_ble_eq_true rfl) dX8_sum_47 ⟨by show _ ≤ 16 * cst n b (pSum tp n rec b cs); omega, by show _ ≤ 64 * cst n b (pSum tp n rec b cs); omega⟩ (fun _ _ => by omega) (fun _ _ => by omega) (fun x9 qE t H1 locs ht hvm hw hB hsz9 hk hS => ?_)
        subst ht
        obtain ⟨hM, hXqE⟩ := hB
        have hM := hM.moved hvm.symm
        have hT := hT.kept (hk _ hT.lt (hlo9 _ (by omega)))
        have hX := hX.kept (fun x h1 h2 h3 => hk x h3 (hlo9 x (by omega)))
        have hmo := hms _ _ _ hbn hw
        have hkE : cst n (nxt tp n b1) (pProd tp n rec (nxt tp n b1) cs1) = x9.1 - nxt tp n b1 := by rw [hw]; rfl
        have hbn := hmo.2
        have hsz9 := hT.lt
        refine va_callv (va_runI (As := [.int (nI ch), .ref q1, .ref qE]) (rest := [.ref qT]) ⟨hx, hb, hml, hown, hts⟩ (metX14_init l (D := D) (cA := cA) (q := qT) (ac := nI ch) (x := q1) (y := qE) hcn) (cwI 3 hts (lw_meth q1306) rfl rfl rfl (hts _ q138) (hts _ q1304) (hts _ q1305) rfl (by decide +kernel) ⟨by show (2) + 1 ≤ 6 * d + 17; omega, by show 8 + (4 + 11) + (80) ≤ 40 * (6 * d + 17) + 600; omega⟩) ⟨NwU.blind.pc, fun U hU hW => ⟨rfl, NwU.go hT hK hZ.2.1 hU hW⟩⟩ rfl rfl hl.1 rfl (lv_room (Nat.le_of_ble_eq_true rfl)) dX8_sum_50 ⟨by show _ ≤ 16 * cst n b (pSum tp n rec b cs); omega, by show _ ≤ 64 * cst n b (pSum tp n rec b cs); omega⟩) hS (fun x _ h => Or.inr (show s.heap.size ≤ x by rw [show x = qT from h]; exact hlT)) (fun x h => Or.inr (show s.heap.size ≤ x by rw [show x = qT from h]; exact hlT)) (fun u t H1 locs ht hvm hw7 hNT hz9 hk hS => ?_)
        subst ht
        have hM := hM.but hK (q := (RX14, TX14, 3)) hT rfl (by decide +kernel) (fun e9 => hlo9 _ hlT (Or.inl e9)) (fun e9 => hlo9 _ hlT (Or.inr e9)) (fun x h1 h2 => hk x h1 h2)
        have hX := hX.kept (fun x h1 h2 h3 => hk x h3 (fun e9 => by have e8 : x = qT := e9; omega))
        have hXqE := hXqE.kept (fun x h1 h2 h3 => hk x h3 (fun e9 => by have e8 : x = qT := e9; omega))
        have hTl : qT < t.heap.size := hNT.lt
        rw [← hac1] at hNT
        refine lv_astore_n (lv' := [(2, .ref qT), (3, .int (nI ch)), (0, .ref rd), (1, .int (nI a))]) hx hb dX8_sum_53 rfl hl (by decide) rfl (fun ls hl => ?_)
        refine lv_goto (tgt := 6) hx hb dX8_sum_54 (by decide) ?_
        exact ih x9.1 (x9.2 ++ [c9]) qT _ _ _ _ _ _ (by omega) hbn (by omega) (by rw [hR9, hR8, hw]; rfl) (by omega) (by omega) hM (Nat.le_refl _) (EXq.both hop hac2 (hX.wide (Nat.le_refl _) (by omega)) (hXqE.wide (by omega) (by omega)) hNT hlT hTl) hS (lv_sub hl [0, 2, 3] rfl)
      refine lv_aload_n hx hb dX8_sum_6 rfl (lv_at hl 1 rfl) ?_
      refine va_ldcSw hx hb hown (hZ.2.2.1 _ (List.mem_of_getElem? (i := 17) rfl)) dX8_sum_7 ?_
      refine R_is (rest := []) ⟨hx, hb, hml, hown, hts⟩ hF hbn hM hS hAz htx (i := 17) (by decide) q1112 ⟨by show _ ≤ 6 * d + 17; omega, by show _ ≤ 40 * (6 * d + 17) + 600; omega⟩ hl.1 (Nat.le_of_ble_eq_true rfl) dX8_sum_10 ⟨by show _ ≤ 16 * cst n b (pSum tp n rec b cs); omega, by show _ ≤ 64 * cst n b (pSum tp n rec b cs); omega⟩ (fun H1 locs hM hk hS => ?_)
      have hsz9 := size_le hk
      have hX := hX.kept (fun x h1 h2 h3 => hk x h3)
      rw [isR_sg (ch := 43) (by rfl) (by decide)]
      generalize hr9 : b2i (sgS tp n 43 b1) = r9
      rcases Bool.eq_false_or_eq_true (sgS tp n 43 b1) with hq0 | hq0
      · rw [hq0] at hr9
        subst hr9
        refine lv_if_ne (tgt := 26) hx hb dX8_sum_13 (by decide) (fun c9 => ?_) (fun c9 => absurd c9 (by decide : ¬ b2i true = 0))
        exact more 43 10020 ((43, -20)) (by decide +kernel) (by decide +kernel) (by decide +kernel) (by decide +kernel) hq0 (by unfold cdS; rw [hq0]; rfl) (sg_lt hq0) _ _ _ hM (by omega) hX hS hl
      · rw [hq0] at hr9
        subst hr9
        refine lv_if_ne (tgt := 26) hx hb dX8_sum_13 (by decide) (fun c9 => absurd (rfl : b2i false = 0) c9) (fun c9 => ?_)
        refine lv_aload_n hx hb dX8_sum_16 rfl (lv_at hl 1 rfl) ?_
        refine va_ldcSw hx hb hown (hZ.2.2.1 _ (List.mem_of_getElem? (i := 18) rfl)) dX8_sum_17 ?_
        refine R_is (rest := []) ⟨hx, hb, hml, hown, hts⟩ hF hbn hM hS hAz htx (i := 18) (by decide) q1112 ⟨by show _ ≤ 6 * d + 17; omega, by show _ ≤ 40 * (6 * d + 17) + 600; omega⟩ hl.1 (Nat.le_of_ble_eq_true rfl) dX8_sum_20 ⟨by show _ ≤ 16 * cst n b (pSum tp n rec b cs); omega, by show _ ≤ 64 * cst n b (pSum tp n rec b cs); omega⟩ (fun H1 locs hM hk hS => ?_)
        have hsz9 := size_le hk
        have hX := hX.kept (fun x h1 h2 h3 => hk x h3)
        rw [isR_sg (ch := 45) (by rfl) (by decide)]
        generalize hr9 : b2i (sgS tp n 45 b1) = r9
        rcases Bool.eq_false_or_eq_true (sgS tp n 45 b1) with hq1 | hq1
        · rw [hq1] at hr9
          subst hr9
          refine lv_if_eq (tgt := 57) hx hb dX8_sum_23 (by decide) (fun c9 => absurd c9 (by decide : ¬ b2i true = 0)) (fun c9 => ?_)
          exact more 45 10021 ((45, -21)) (by decide +kernel) (by decide +kernel) (by decide +kernel) (by decide +kernel) hq1 (by unfold cdS; rw [hq0, hq1]; rfl) (sg_lt hq1) _ _ _ hM (by omega) hX hS hl
        · rw [hq1] at hr9
          subst hr9
          refine lv_if_eq (tgt := 57) hx hb dX8_sum_23 (by decide) (fun c9 => ?_) (fun c9 => absurd (rfl : b2i false = 0) c9)
          refine lv_aload_n hx hb dX8_sum_57 rfl (lv_at hl 0 rfl) ?_
          have hR : pSum tp n rec b cs = .ok (b1, cs1) := by
            rw [hR9]
            show (match (cdS tp n 43 10020 45 10021) b1 with | none => _ | some c => _) = _
            rw [show (cdS tp n 43 10020 45 10021) b1 = none from by unfold cdS; rw [hq0, hq1]; rfl]
          have hzt := hS.1
          exact W.widen (k := 16 * cst n b (pSum tp n rec b cs)) (n := 64 * cst n b (pSum tp n rec b cs)) (by omega) (by omega) (vy_ret (W.aret (v := .ref q1) hx hb hret (Or.inl ⟨_, rfl⟩) (Or.inr ⟨_, rfl⟩) (fun t9 ht hW => ⟨⟨(b1, cs1), q1, rfl, hR, (show RW _ _ _ _ _ _ _ _ _ _ _ t9 t9.heap from ht ▸ hM.moved hW.alike), (show EXq _ _ _ t9.heap.size t9.heap _ _ _ from ht ▸ hX.wide (Nat.le_refl _) (by omega))⟩, hS.F ht⟩) hS.2.2 dX8_sum_58 hlocks))
  refine lv_aload_n hx hb dX8_sum_0 rfl (lv_at hl 0 rfl) ?_
  refine lv_iload_n hx hb dX8_sum_1 rfl (lv_at hl 1 rfl) ?_
  have hS0 := hS
  refine Y_r (rest := []) ⟨hx, hb, hml, hown, hts⟩ hF hbn hM hS hA0 hAz htx het hlocks (hsub g b _ cs hbn h6) (cwV 1 hts (lw_V q1228 q1230 qs31 q131 q1231) rfl rfl rfl (by decide +kernel) ⟨by show (6 * d + 16) + 1 ≤ 6 * d + 17; omega, by show 8 + (4 + 11) + (40 * (6 * d + 16) + 600) ≤ 40 * (6 * d + 17) + 600; omega⟩) (fun e9 he9 => by rw [hF9, he9]; rfl) rfl hl.1 rfl (Nat.le_of_ble_eq_true rfl) dX8_sum_2 ⟨by show _ ≤ 16 * cst n b (pSum tp n rec b cs); omega, by show _ ≤ 64 * cst n b (pSum tp n rec b cs); omega⟩ (fun _ _ => by omega) (fun _ _ => by omega) (fun x9 qE t H1 locs ht hvm hw hB hsz9 hk hS => ?_)
  subst ht
  obtain ⟨hM, hXqE⟩ := hB
  have hM := hM.moved hvm.symm
  have hmo := hms _ _ _ hbn hw
  have hkE : cst n b (pProd tp n rec b cs) = x9.1 - b := by rw [hw]; rfl
  have ha6 : ¬ a = 6 := fun h9 => by rw [bad_prod (h6 h9)] at hw; cases hw
  refine lv_astore_n (lv' := [(2, .ref qE), (0, .ref rd), (1, .int (nI a))]) hx hb dX8_sum_5 rfl hl (by decide) rfl (fun ls hl => ?_)
  exact loop ha6 (n + 1) x9.1 x9.2 qE _ _ _ _ _ _ (by omega) hmo.2 hmo.1 (by rw [hF9, hw]; rfl) (by omega) (by omega) hM (Nat.le_refl _) (hXqE.wide hS0.1 (Nat.le_refl _)) hS hl
set_option maxHeartbeats 4000000 in
set_option maxRecDepth 100000 in
theorem metX8_and (l : Launch) (hlt : l.stackTraces = false) {D : va_G} {cA : Nat → ClassId} {z0 : Nat} {E : Nat → Nat → Nat} {tp : Nat → Nat} {n : Nat} {f : Nat → Int32} {rd ha tx : Nat} {a d : Nat} (hd : a + d = 7) (h1d : 1 ≤ d) {rec : Nat → List Nat → EX} (hm : Mo n rec) (hsub : EXC l D cA z0 E tp n f rd ha tx yX8_not (ws_ yX8_not cX8_not 5 (some (.object "StrangeKnives$Expr"))) (6 * d + 18) a (pNot tp n rec) (fun b => a = 6 → exB tp n b = false)) : EXC l D cA z0 E tp n f rd ha tx yX8_and (ws_ yX8_and cX8_and 3 (some (.object "StrangeKnives$Expr"))) (6 * d + 19) a (pAnd tp n rec) (fun b => a = 6 → exB tp n b = false) := by
  intro g b sz cs hbn h6
  refine vy_ofW (cc := cX8_and) (maxL := 3) (ret := (some (.object "StrangeKnives$Expr"))) (by decide) rfl ?_
  intro p e s m args below meth c s₁ B hml het hv
  obtain ⟨rfl, hv⟩ := hv
  have hx := B.exec
  have hb := B.bytes
  have hret := B.returns
  have hts := atoms_spec (ws := ws_ yX8_and cX8_and 3 (some (.object "StrangeKnives$Expr"))) B.pre
  have hts : ∀ w ∈ lw_all, w.before _ s = true := fun w h => hts w (List.mem_cons_of_mem _ h)
  have hown : s.vm.findClass RX8 = some m.cls := findClass_of_methodNamed B.named
  have hlocks := B.notSynchronized
  have hS : va_S (RA rd ha sz) s.heap s.heap [] := va_S.rf
  have hl := lv_entry ([.ref rd, .int (nI a)]) (n := 3) (Nat.le_of_ble_eq_true rfl)
  rw [lg_entry_eq]
  generalize (lg_sl ([.ref rd, .int (nI a)]) ++ List.replicate (3 - (lg_sl ([.ref rd, .int (nI a)])).length) Slot.unset).toArray = ls at hl ⊢
  have hl : lv_has ls 3 [(0, .ref rd), (1, .int (nI a))] := hl
  obtain ⟨hsz, hM, hF, hbn⟩ := hv
  subst hsz
  have hz6 := hF.2.1.2.2.2.2.2
  have hK := hF.1
  have hZ := hF.2.1
  have hn6 := hF.2.2.2.1
  have hA0 : ∀ q, RA rd ha s.heap.size q → RA rd ha s.heap.size q := fun q h => h
  have hAz : ∀ q, RA rd ha s.heap.size q → z0 ≤ q := RAz (H := s.heap) hF
  have hAZ : ∀ q, RA rd ha s.heap.size q → ZA z0 q := hAz
  have htx : ¬ RA rd ha s.heap.size tx := RAtx hF
  have hty := ty_le (tp := tp) (n := n) b
  have hrl : rd < s.heap.size ∧ ha < s.heap.size := by obtain ⟨v, lg, w, wv, h1, h2, -⟩ := hM; exact ⟨h1.lt, h2.lt⟩
  have hlo9 : ∀ x, s.heap.size ≤ x → ¬ R2 rd ha x := fun x h9 h8 => h8.elim (fun e9 => by omega) (fun e9 => by omega)
  refine W_h (fun H hk0 hz0 => ?_)
  have hM := hM.kept (H1 := H) (fun q _ => hk0 q)
  have hS : va_S (RA rd ha s.heap.size) s.heap H [] := ⟨Nat.le_of_eq hz0.symm, fun q _ _ => hk0 q, fun _ h => by cases h⟩
  have hms : Mo n (pNot tp n rec) := hm.not
  have hF9 : pAnd tp n rec b cs = eR (pNot tp n rec b cs) (fun x => pLoop tp n (cdW tp n 13 10026) (pNot tp n rec) (n + 1) x.1 x.2) := rfl
  have hK1 : cst n b (pNot tp n rec b cs) ≤ cst n b (pAnd tp n rec b cs) := by rw [hF9]; exact cst_bind (fun x9 h9 => (hms _ _ _ hbn h9).2) (fun x9 y9 h9 h8 => (Mo.loop hms (n + 1) _ _ _ (hms _ _ _ hbn h9).2 h8).1)
  have loop : ¬ a = 6 → ∀ (fu b1 : Nat) (cs1 : List Nat) (q1 hi1 : Nat) (H : Heap) (locs : List Loc) (ls : Array Slot) (cells slots : Nat), n < b1 + fu → b1 ≤ n → b ≤ b1 → pAnd tp n rec b cs = pLoop tp n (cdW tp n 13 10026) (pNot tp n rec) fu b1 cs1 → cells ≤ 16 * (b1 - b) → slots ≤ 64 * (b1 - b) → RW D cA z0 E tp n rd ha tx g b1 s H → hi1 ≤ H.size → EXq D E s.heap.size hi1 H cs cs1 q1 → va_S (RA rd ha s.heap.size) s.heap H locs → lv_has ls 3 [(2, .ref q1), (0, .ref rd), (1, .int (nI a))] → W p l e (headSpec (ws_ yX8_and cX8_and 3 (some (.object "StrangeKnives$Expr"))) ({ frames := 6 * d + 19, cells := 16 * cst n b (pAnd tp n rec b cs), slots := 64 * cst n b (pAnd tp n rec b cs), locals := 40 * (6 * d + 19) + 600 })).room s m ([.ref rd, .int (nI a)] : List Value).toArray below meth c H locs cells slots (vy_MQ below (va_Qr (fun x : Nat × List Nat => pAnd tp n rec b cs = .ok x) (fun x q t => RW D cA z0 E tp n rd ha tx g x.1 t t.heap ∧ EXq D E s.heap.size t.heap.size t.heap cs x.2 q) (RA rd ha s.heap.size)) (YX D (fun e => pAnd tp n rec b cs = .error e) (RA rd ha s.heap.size)) ([.ref rd, .int (nI a)] : List Value).toArray s (16 * cst n b (pAnd tp n rec b cs)) (64 * cst n b (pAnd tp n rec b cs)) (RA rd ha s.heap.size)) (F0 m 6 ls []) := by
    intro ha6 fu
    induction fu with
    | zero => intro b1 cs1 q1 hi1 H locs ls cells slots hfu hbn; omega
    | succ fu ih =>
      intro b1 cs1 q1 hi1 H locs ls cells slots hfu hbn hbb hR9 hce hse hM hhi hX hS hl
      have hKb : cst n b1 (pLoop tp n (cdW tp n 13 10026) (pNot tp n rec) (fu + 1) b1 cs1) + (b1 - b) ≤ cst n b (pAnd tp n rec b cs) := by rw [hR9]; exact cst_ge hbb hbn (fun x9 h9 => (Mo.loop hms _ _ _ _ hbn h9).1)
      have more : ∀ (ch c0 : Nat) (ac : Int32 × Int32), ac ∈ xops → ac.1 = nI ch → sgN c0 = ac.2 → (narrow .char (.int (nI ch)) = .int (nI ch) ∧ fits .char (.int (nI ch)) = true) → nI ch = 38 → (cdW tp n 13 10026) b1 = some c0 → b1 < n → ∀ (H : Heap) (locs : List Loc) (ls : Array Slot), RW D cA z0 E tp n rd ha tx g b1 s H → hi1 ≤ H.size → EXq D E s.heap.size hi1 H cs cs1 q1 → va_S (RA rd ha s.heap.size) s.heap H locs → lv_has ls 3 [(2, .ref q1), (0, .ref rd), (1, .int (nI a))] → W p l e (headSpec (ws_ yX8_and cX8_and 3 (some (.object "StrangeKnives$Expr"))) ({ frames := 6 * d + 19, cells := 16 * cst n b (pAnd tp n rec b cs), slots := 64 * cst n b (pAnd tp n rec b cs), locals := 40 * (6 * d + 19) + 600 })).room s m ([.ref rd, .int (nI a)] : List Value).toArray below meth c H locs cells slots (vy_MQ below (va_Qr (fun x : Nat × List Nat => pAnd tp n rec b cs = .ok x) (fun x q t => RW D cA z0 E tp n rd ha tx g x.1 t t.heap ∧ EXq D E s.heap.size t.heap.size t.heap cs x.2 q) (RA rd ha s.heap.size)) (YX D (fun e => pAnd tp n rec b cs = .error e) (RA rd ha s.heap.size)) ([.ref rd, .int (nI a)] : List Value).toArray s (16 * cst n b (pAnd tp n rec b cs)) (64 * cst n b (pAnd tp n rec b cs)) (RA rd ha s.heap.size)) (F0 m 15 ls []) := by
        intro ch c9 ac hop hac1 hac2 hcn hsg hcd hbl H locs ls hM hhi hX hS hl
        have hnx := nxt_lt (tp := tp) hbl
        have hR8 : pLoop tp n (cdW tp n 13 10026) (pNot tp n rec) (fu + 1) b1 cs1 = eR (pNot tp n rec (nxt tp n b1) cs1) (fun x => pLoop tp n (cdW tp n 13 10026) (pNot tp n rec) fu x.1 (x.2 ++ [c9])) := by
          show (match (cdW tp n 13 10026) b1 with | none => _ | some c => _) = _
          rw [hcd]
        have hK2 : cst n (nxt tp n b1) (pNot tp n rec (nxt tp n b1) cs1) + (nxt tp n b1 - b1) ≤ cst n b1 (pLoop tp n (cdW tp n 13 10026) (pNot tp n rec) (fu + 1) b1 cs1) := by
          rw [hR8]
          exact Nat.le_trans (cst_ge (by omega) (nxt_le hbn).2 (fun x9 h9 => (hms _ _ _ (nxt_le hbn).2 h9).1)) (cst_bind (fun x9 h9 => (hms _ _ _ (nxt_le hbn).2 h9).2) (fun x9 y9 h9 h8 => (Mo.loop hms fu _ _ _ (hms _ _ _ (nxt_le hbn).2 h9).2 h8).1))
        refine lv_aload_n hx hb dX8_and_15 rfl (lv_at hl 1 rfl) ?_
        refine R_go (rest := []) ⟨hx, hb, hml, hown, hts⟩ hF hbn hM hS hA0 hAz htx q1010 ⟨by show _ ≤ 6 * d + 19; omega, by show _ ≤ 40 * (6 * d + 19) + 600; omega⟩ hl.1 (Nat.le_of_ble_eq_true rfl) dX8_and_16 ⟨by show _ ≤ 16 * cst n b (pAnd tp n rec b cs); omega, by show _ ≤ 64 * cst n b (pAnd tp n rec b cs); omega⟩ (fun H1 locs hM hsz9 hk hS => ?_)
        have hX := hX.kept (fun x h1 h2 h3 => hk x h3 (hlo9 x (by omega)))
        have hbn0 := hbn
        have hbn := (nxt_le (tp := tp) hbn).2
        have hsH := hS.1
        refine h_newO (ci := 11) (fs := [.int 0, .null, .null]) (C := RX14) (T := TX14) (N := 3) hx hb hts in_X14 tyX14 tyX14_ok hown (hts _ q1302) (hts _ q1303) (hts _ q138) hK hS rfl (fun j hj => by rcases (show j = 0 ∨ j = 1 ∨ j = 2 by omega) with rfl | rfl | rfl <;> rfl) (by show _ ≤ 16 * cst n b (pAnd tp n rec b cs); omega) (by show _ ≤ 64 * cst n b (pAnd tp n rec b cs); omega) dX8_and_19 (fun H2 hT oq hz hS => ?_)
        have hM := hM.kept oq
        have hX := hX.kept (fun x h1 h2 h3 => oq x h3)
        obtain ⟨qT, hqT⟩ : ∃ q, H1.size = q := ⟨_, rfl⟩
        rw [hqT] at hT hz ⊢
        have hlT : s.heap.size ≤ qT := by omega
        have hgT := hT.lt
        refine lv_dup hx hb dX8_and_22 rfl ?_
        refine lv_bipush (v := 38) hx hb dX8_and_23 (by decide) ?_
        refine lv_aload_n hx hb dX8_and_25 rfl (lv_at hl 0 rfl) ?_
        refine lv_aload_n hx hb dX8_and_26 rfl (lv_at hl 1 rfl) ?_
        refine lv_iload_n hx hb dX8_and_27 rfl (lv_at hl 2 rfl) ?_
        refine Y_r (rest := [.ref q1, .int 38, .ref qT, .ref qT]) ⟨hx, hb, hml, hown, hts⟩ hF hbn hM hS hA0 hAz htx het hlocks (hsub g (nxt tp n b1) _ cs1 hbn (fun h9 => absurd h9 ha6)) (cwV 1 hts (lw_V q1219 q1221 qs29 q131 q1222) rfl rfl rfl (by decide +kernel) ⟨by show (6 * d + 18) + 1 ≤ 6 * d + 19; omega, by show 8 + (5 + 11) + (40 * (6 * d + 18) + 600) ≤ 40 * (6 * d + 19) + 600; omega⟩) (fun e9 he9 => by rw [hR9, hR8, he9]; rfl) rfl hl.1 rfl (Nat.le_of_ble_eq_true rfl) dX8_and_28 ⟨by show _ ≤ 16 * cst n b (pAnd tp n rec b cs); omega, by show _ ≤ 64 * cst n b (pAnd tp n rec b cs); omega⟩ (fun _ _ => by omega) (fun _ _ => by omega) (fun x9 qE t H1 locs ht hvm hw hB hsz9 hk hS => ?_)
        subst ht
        obtain ⟨hM, hXqE⟩ := hB
        have hM := hM.moved hvm.symm
        have hT := hT.kept (hk _ hT.lt (hlo9 _ (by omega)))
        have hX := hX.kept (fun x h1 h2 h3 => hk x h3 (hlo9 x (by omega)))
        have hmo := hms _ _ _ hbn hw
        have hkE : cst n (nxt tp n b1) (pNot tp n rec (nxt tp n b1) cs1) = x9.1 - nxt tp n b1 := by rw [hw]; rfl
        have hbn := hmo.2
        rw [← hsg]
        have hsz9 := hT.lt
        refine va_callv (va_runI (As := [.int (nI ch), .ref q1, .ref qE]) (rest := [.ref qT]) ⟨hx, hb, hml, hown, hts⟩ (metX14_init l (D := D) (cA := cA) (q := qT) (ac := nI ch) (x := q1) (y := qE) hcn) (cwI 3 hts (lw_meth q1306) rfl rfl rfl (hts _ q138) (hts _ q1304) (hts _ q1305) rfl (by decide +kernel) ⟨by show (2) + 1 ≤ 6 * d + 19; omega, by show 8 + (4 + 11) + (80) ≤ 40 * (6 * d + 19) + 600; omega⟩) ⟨NwU.blind.pc, fun U hU hW => ⟨rfl, NwU.go hT hK hZ.2.1 hU hW⟩⟩ rfl rfl hl.1 rfl (lv_room (Nat.le_of_ble_eq_true rfl)) dX8_and_31 ⟨by show _ ≤ 16 * cst n b (pAnd tp n rec b cs); omega, by show _ ≤ 64 * cst n b (pAnd tp n rec b cs); omega⟩) hS (fun x _ h => Or.inr (show s.heap.size ≤ x by rw [show x = qT from h]; exact hlT)) (fun x h => Or.inr (show s.heap.size ≤ x by rw [show x = qT from h]; exact hlT)) (fun u t H1 locs ht hvm hw7 hNT hz9 hk hS => ?_)
        subst ht
        have hM := hM.but hK (q := (RX14, TX14, 3)) hT rfl (by decide +kernel) (fun e9 => hlo9 _ hlT (Or.inl e9)) (fun e9 => hlo9 _ hlT (Or.inr e9)) (fun x h1 h2 => hk x h1 h2)
        have hX := hX.kept (fun x h1 h2 h3 => hk x h3 (fun e9 => by have e8 : x = qT := e9; omega))
        have hXqE := hXqE.kept (fun x h1 h2 h3 => hk x h3 (fun e9 => by have e8 : x = qT := e9; omega))
        have hTl : qT < t.heap.size := hNT.lt
        rw [← hac1] at hNT
        refine lv_astore_n (lv' := [(2, .ref qT), (0, .ref rd), (1, .int (nI a))]) hx hb dX8_and_34 rfl hl (by decide) rfl (fun ls hl => ?_)
        refine lv_goto (tgt := 6) hx hb dX8_and_35 (by decide) ?_
        exact ih x9.1 (x9.2 ++ [c9]) qT _ _ _ _ _ _ (by omega) hbn (by omega) (by rw [hR9, hR8, hw]; rfl) (by omega) (by omega) hM (Nat.le_refl _) (EXq.both hop hac2 (hX.wide (Nat.le_refl _) (by omega)) (hXqE.wide (by omega) (by omega)) hNT hlT hTl) hS (lv_sub hl [0, 1, 2] rfl)
      refine lv_aload_n hx hb dX8_and_6 rfl (lv_at hl 1 rfl) ?_
      refine va_ldcS hx hb hown (hZ.2.2.1 _ (List.mem_of_getElem? (i := 13) rfl)) dX8_and_7 ?_
      refine R_is (rest := []) ⟨hx, hb, hml, hown, hts⟩ hF hbn hM hS hAz htx (i := 13) (by decide) q1112 ⟨by show _ ≤ 6 * d + 19; omega, by show _ ≤ 40 * (6 * d + 19) + 600; omega⟩ hl.1 (Nat.le_of_ble_eq_true rfl) dX8_and_9 ⟨by show _ ≤ 16 * cst n b (pAnd tp n rec b cs); omega, by show _ ≤ 64 * cst n b (pAnd tp n rec b cs); omega⟩ (fun H1 locs hM hk hS => ?_)
      have hsz9 := size_le hk
      have hX := hX.kept (fun x h1 h2 h3 => hk x h3)
      rw [isR_wd (by decide +kernel)]
      generalize hr9 : b2i (wdS tp n 13 b1) = r9
      rcases Bool.eq_false_or_eq_true (wdS tp n 13 b1) with hq0 | hq0
      · rw [hq0] at hr9
        subst hr9
        refine lv_if_eq (tgt := 38) hx hb dX8_and_12 (by decide) (fun c9 => absurd c9 (by decide : ¬ b2i true = 0)) (fun c9 => ?_)
        exact more 38 10026 ((38, -26)) (by decide +kernel) (by decide +kernel) (by decide +kernel) (by decide +kernel) (by decide +kernel) (by unfold cdW; rw [hq0]; rfl) (wd_lt hq0) _ _ _ hM (by omega) hX hS hl
      · rw [hq0] at hr9
        subst hr9
        refine lv_if_eq (tgt := 38) hx hb dX8_and_12 (by decide) (fun c9 => ?_) (fun c9 => absurd (rfl : b2i false = 0) c9)
        refine lv_aload_n hx hb dX8_and_38 rfl (lv_at hl 0 rfl) ?_
        have hR : pAnd tp n rec b cs = .ok (b1, cs1) := by
          rw [hR9]
          show (match (cdW tp n 13 10026) b1 with | none => _ | some c => _) = _
          rw [show (cdW tp n 13 10026) b1 = none from by unfold cdW; rw [hq0]; rfl]
        have hzt := hS.1
        exact W.widen (k := 16 * cst n b (pAnd tp n rec b cs)) (n := 64 * cst n b (pAnd tp n rec b cs)) (by omega) (by omega) (vy_ret (W.aret (v := .ref q1) hx hb hret (Or.inl ⟨_, rfl⟩) (Or.inr ⟨_, rfl⟩) (fun t9 ht hW => ⟨⟨(b1, cs1), q1, rfl, hR, (show RW _ _ _ _ _ _ _ _ _ _ _ t9 t9.heap from ht ▸ hM.moved hW.alike), (show EXq _ _ _ t9.heap.size t9.heap _ _ _ from ht ▸ hX.wide (Nat.le_refl _) (by omega))⟩, hS.F ht⟩) hS.2.2 dX8_and_39 hlocks))
  refine lv_aload_n hx hb dX8_and_0 rfl (lv_at hl 0 rfl) ?_
  refine lv_iload_n hx hb dX8_and_1 rfl (lv_at hl 1 rfl) ?_
  have hS0 := hS
  refine Y_r (rest := []) ⟨hx, hb, hml, hown, hts⟩ hF hbn hM hS hA0 hAz htx het hlocks (hsub g b _ cs hbn h6) (cwV 1 hts (lw_V q1219 q1221 qs29 q131 q1222) rfl rfl rfl (by decide +kernel) ⟨by show (6 * d + 18) + 1 ≤ 6 * d + 19; omega, by show 8 + (5 + 11) + (40 * (6 * d + 18) + 600) ≤ 40 * (6 * d + 19) + 600; omega⟩) (fun e9 he9 => by rw [hF9, he9]; rfl) rfl hl.1 rfl (Nat.le_of_ble_eq_true rfl) dX8_and_2 ⟨by show _ ≤ 16 * cst n b (pAnd tp n rec b cs); omega, by show _ ≤ 64 * cst n b (pAnd tp n rec b cs); omega⟩ (fun _ _ => by omega) (fun _ _ => by omega) (fun x9 qE t H1 locs ht hvm hw hB hsz9 hk hS => ?_)
  subst ht
  obtain ⟨hM, hXqE⟩ := hB
  have hM := hM.moved hvm.symm
  have hmo := hms _ _ _ hbn hw
  have hkE : cst n b (pNot tp n rec b cs) = x9.1 - b := by rw [hw]; rfl
  have ha6 : ¬ a = 6 := fun h9 => by rw [bad_not (h6 h9)] at hw; cases hw
  refine lv_astore_n (lv' := [(2, .ref qE), (0, .ref rd), (1, .int (nI a))]) hx hb dX8_and_5 rfl hl (by decide) rfl (fun ls hl => ?_)
  exact loop ha6 (n + 1) x9.1 x9.2 qE _ _ _ _ _ _ (by omega) hmo.2 hmo.1 (by rw [hF9, hw]; rfl) (by omega) (by omega) hM (Nat.le_refl _) (hXqE.wide hS0.1 (Nat.le_refl _)) hS hl
