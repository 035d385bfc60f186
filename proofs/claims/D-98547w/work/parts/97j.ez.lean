/-! 97j.ez, printed by tools/mk_ez.py: the Reader reads nots and comparisons, expressions -/
theorem nI_m1 (k : Nat) : nI (k + 1) + Int32.ofInt (-1) = nI k := by
  rw [show Int32.ofInt (-1) = -1 by decide, ← Int32.sub_eq_add_neg]
  exact nI_pred k
section NTL
variable {tp : Nat → Nat} {n b : Nat}
theorem cst_low {b1 : Nat} {r : EX} (hb1 : b1 ≤ n) (h : ∀ x, r = .ok x → b1 ≤ x.1) : b1 - b ≤ cst n b r := by
  cases hr : r with
  | error e => show b1 - b ≤ n - b + 1; omega
  | ok x => have := h x hr; show b1 - b ≤ x.1 - b; omega
/-- what follows the nots -/
def aftN (tp : Nat → Nat) (n : Nat) (rec : Nat → List Nat → EX) (cs : List Nat) (y : Nat × Nat) : EX := eR (pSum tp n rec y.1 cs) (fun x => eR (pCmp tp n rec x) (fun z => .ok (z.1, z.2 ++ List.replicate y.2 10028)))
theorem not_aft {rec : Nat → List Nat → EX} {cs : List Nat} : pNot tp n rec b cs = eR (pNots tp n 8 b 0) (aftN tp n rec cs) := rfl
theorem aft_mo {rec : Nat → List Nat → EX} (hm : Mo n rec) {cs : List Nat} {y : Nat × Nat} {z : Nat × List Nat} (hy : y.1 ≤ n) (h : aftN tp n rec cs y = .ok z) : y.1 ≤ z.1 := by
  obtain ⟨x, h1, h2⟩ := eR_ok h
  obtain ⟨u, h3, h4⟩ := eR_ok h2
  cases h4
  have a1 := hm.sum _ _ _ hy h1
  have a2 := (show _ from hm.cmp) x.1 x.2 u a1.2 h3
  show y.1 ≤ u.1
  omega
theorem nots_aft {rec : Nat → List Nat → EX} (hm : Mo n rec) {cs : List Nat} {fu b1 k : Nat} {z : Nat × List Nat} (hb : b1 ≤ n) (h : eR (pNots tp n fu b1 k) (aftN tp n rec cs) = .ok z) : b1 ≤ z.1 := by
  obtain ⟨y, h1, h2⟩ := eR_ok h
  have a1 := nots_mo _ _ _ _ hb h1
  have a2 := aft_mo hm a1.2.1 h2
  omega
end NTL
set_option maxHeartbeats 4000000 in
set_option maxRecDepth 100000 in
theorem metX8_not (l : Launch) (hlt : l.stackTraces = false) {D : va_G} {cA : Nat → ClassId} {z0 : Nat} {E : Nat → Nat → Nat} {tp : Nat → Nat} {n : Nat} {f : Nat → Int32} {rd ha tx : Nat} {a d : Nat} (hd : a + d = 7) (h1d : 1 ≤ d) {rec : Nat → List Nat → EX} (hm : Mo n rec) (hsub : EXC l D cA z0 E tp n f rd ha tx yX8_sum (ws_ yX8_sum cX8_sum 4 (some (.object "StrangeKnives$Expr"))) (6 * d + 17) a (pSum tp n rec) (fun b => a = 6 → exB tp n b = false)) : EXC l D cA z0 E tp n f rd ha tx yX8_not (ws_ yX8_not cX8_not 5 (some (.object "StrangeKnives$Expr"))) (6 * d + 18) a (pNot tp n rec) (fun b => a = 6 → exB tp n b = false) := by
  intro g b sz cs hbn h6
  refine vy_ofW (cc := cX8_not) (maxL := 5) (ret := (some (.object "StrangeKnives$Expr"))) (by decide) rfl ?_
  intro p e s m args below meth c s₁ B hml het hv
  obtain ⟨rfl, hv⟩ := hv
  have hx := B.exec
  have hb := B.bytes
  have hret := B.returns
  have hts := atoms_spec (ws := ws_ yX8_not cX8_not 5 (some (.object "StrangeKnives$Expr"))) B.pre
  have hts : ∀ w ∈ lw_all, w.before _ s = true := fun w h => hts w (List.mem_cons_of_mem _ h)
  have hown : s.vm.findClass RX8 = some m.cls := findClass_of_methodNamed B.named
  have hlocks := B.notSynchronized
  have hS : va_S (RA rd ha sz) s.heap s.heap [] := va_S.rf
  have hl := lv_entry ([.ref rd, .int (nI a)]) (n := 5) (Nat.le_of_ble_eq_true rfl)
  rw [lg_entry_eq]
  generalize (lg_sl ([.ref rd, .int (nI a)]) ++ List.replicate (5 - (lg_sl ([.ref rd, .int (nI a)])).length) Slot.unset).toArray = ls at hl ⊢
  have hl : lv_has ls 5 [(0, .ref rd), (1, .int (nI a))] := hl
  obtain ⟨hsz, hM, hF, hbn⟩ := hv
  subst hsz
  have hz6 := hF.2.1.2.2.2.2.2
  have hK := hF.1
  have hZ := hF.2.1
  have hn6 := hF.2.2.2.1
  have hA0 : ∀ q, RA rd ha s.heap.size q → RA rd ha s.heap.size q := fun q h => h
  have hAz : ∀ q, RA rd ha s.heap.size q → z0 ≤ q := RAz (H := s.heap) hF
  have hAZ : ∀ q, RA rd ha s.heap.size q → ZA z0 q := hAz
  have htx : ¬ RA rd ha s.heap.size tx := RAtx hF
  have hty := ty_le (tp := tp) (n := n) b
  have hrl : rd < s.heap.size ∧ ha < s.heap.size := by obtain ⟨v, lg, w, wv, h1, h2, -⟩ := hM; exact ⟨h1.lt, h2.lt⟩
  have hlo9 : ∀ x, s.heap.size ≤ x → ¬ R2 rd ha x := fun x h9 h8 => h8.elim (fun e9 => by omega) (fun e9 => by omega)
  refine W_h (fun H hk0 hz0 => ?_)
  have hM := hM.kept (H1 := H) (fun q _ => hk0 q)
  have hS : va_S (RA rd ha s.heap.size) s.heap H [] := ⟨Nat.le_of_eq hz0.symm, fun q _ _ => hk0 q, fun _ h => by cases h⟩
  have hms := hm.sum (tp := tp)
  have h48 : narrow .char (.int (nI 60)) = .int (nI 60) := by decide +kernel
  have tail : ∀ (k : Nat) (b1 : Nat) (cs1 : List Nat) (q1 hi1 : Nat) (H : Heap) (locs : List Loc) (ls : Array Slot) (cells slots : Nat), k < 8 → b1 ≤ n → pNot tp n rec b cs = .ok (b1, cs1 ++ List.replicate k 10028) → cells + k ≤ 16 * (b1 - b) → slots + k ≤ 64 * (b1 - b) → RW D cA z0 E tp n rd ha tx g b1 s H → hi1 ≤ H.size → EXq D E s.heap.size hi1 H cs cs1 q1 → va_S (RA rd ha s.heap.size) s.heap H locs → lv_has ls 5 [(2, .int (nI k)), (3, .ref q1), (0, .ref rd), (1, .int (nI a))] → W p l e (headSpec (ws_ yX8_not cX8_not 5 (some (.object "StrangeKnives$Expr"))) ({ frames := 6 * d + 18, cells := 16 * cst n b (pNot tp n rec b cs), slots := 64 * cst n b (pNot tp n rec b cs), locals := 40 * (6 * d + 18) + 600 })).room s m ([.ref rd, .int (nI a)] : List Value).toArray below meth c H locs cells slots (vy_MQ below (va_Qr (fun x : Nat × List Nat => pNot tp n rec b cs = .ok x) (fun x q t => RW D cA z0 E tp n rd ha tx g x.1 t t.heap ∧ EXq D E s.heap.size t.heap.size t.heap cs x.2 q) (RA rd ha s.heap.size)) (YX D (fun e => pNot tp n rec b cs = .error e) (RA rd ha s.heap.size)) ([.ref rd, .int (nI a)] : List Value).toArray s (16 * cst n b (pNot tp n rec b cs)) (64 * cst n b (pNot tp n rec b cs)) (RA rd ha s.heap.size)) (F0 m 91 ls []) := by
    intro k
    induction k with
    | zero =>
      intro b1 cs1 q1 hi1 H locs ls cells slots hk8 hbn hR9 hce hse hM hhi hX hS hl
      have hKv : cst n b (pNot tp n rec b cs) = b1 - b := by rw [hR9]; rfl
      refine lv_iload_n hx hb dX8_not_91 rfl (lv_at hl 0 rfl) ?_
      refine lv_if_le (tgt := 110) hx hb dX8_not_92 (by decide) (fun c9 => ?_) (fun c9 => absurd (by decide : nI 0 ≤ 0) c9)
      refine lv_aload_n hx hb dX8_not_110 rfl (lv_at hl 1 rfl) ?_
      have hzt := hS.1
      exact W.widen (k := 16 * cst n b (pNot tp n rec b cs)) (n := 64 * cst n b (pNot tp n rec b cs)) (by omega) (by omega) (vy_ret (W.aret (v := .ref q1) hx hb hret (Or.inl ⟨_, rfl⟩) (Or.inr ⟨_, rfl⟩) (fun t9 ht hW => ⟨⟨(b1, cs1), q1, rfl, by rw [hR9, List.replicate_zero, List.append_nil], (show RW _ _ _ _ _ _ _ _ _ _ _ t9 t9.heap from ht ▸ hM.moved hW.alike), (show EXq _ _ _ t9.heap.size t9.heap _ _ _ from ht ▸ hX.wide (Nat.le_refl _) (by omega))⟩, hS.F ht⟩) hS.2.2 dX8_not_111 hlocks))
    | succ k ih =>
      intro b1 cs1 q1 hi1 H locs ls cells slots hk8 hbn hR9 hce hse hM hhi hX hS hl
      have hKv : cst n b (pNot tp n rec b cs) = b1 - b := by rw [hR9]; rfl
      refine lv_iload_n hx hb dX8_not_91 rfl (lv_at hl 0 rfl) ?_
      refine lv_if_le (tgt := 110) hx hb dX8_not_92 (by decide) (fun c9 => absurd c9 (nI_nle (by omega) (by omega))) (fun c9 => ?_)
      have hsH := hS.1
      refine h_newO (ci := 12) (fs := [.null]) (C := RX15) (T := TX15) (N := 1) hx hb hts in_X15 tyX15 tyX15_ok hown (hts _ q1322) (hts _ q1323) (hts _ q139) hK hS rfl (fun j hj => by rcases (show j = 0 by omega) with rfl <;> rfl) (by show _ ≤ 16 * cst n b (pNot tp n rec b cs); omega) (by show _ ≤ 64 * cst n b (pNot tp n rec b cs); omega) dX8_not_95 (fun H2 hT oq hz hS => ?_)
      have hM := hM.kept oq
      have hX := hX.kept (fun x h1 h2 h3 => oq x h3)
      obtain ⟨qT, hqT⟩ : ∃ q, H.size = q := ⟨_, rfl⟩
      rw [hqT] at hT hz ⊢
      have hlT : s.heap.size ≤ qT := by omega
      have hgT := hT.lt
      refine lv_dup hx hb dX8_not_98 rfl ?_
      refine lv_aload_n hx hb dX8_not_99 rfl (lv_at hl 1 rfl) ?_
      have hsz9 := hT.lt
      refine va_callv (va_runI (As := [.ref q1]) (rest := [.ref qT]) ⟨hx, hb, hml, hown, hts⟩ (metX15_init l (D := D) (cA := cA) (q := qT) (x := q1)) (cwI 1 hts (lw_meth q1326) rfl rfl rfl (hts _ q139) (hts _ q1324) (hts _ q1325) rfl (by decide +kernel) ⟨by show (2) + 1 ≤ 6 * d + 18; omega, by show 8 + (2 + 11) + (80) ≤ 40 * (6 * d + 18) + 600; omega⟩) ⟨NwU.blind.pc, fun U hU hW => ⟨rfl, NwU.go hT hK hZ.2.1 hU hW⟩⟩ rfl rfl hl.1 rfl (lv_room (Nat.le_of_ble_eq_true rfl)) dX8_not_100 ⟨by show _ ≤ 16 * cst n b (pNot tp n rec b cs); omega, by show _ ≤ 64 * cst n b (pNot tp n rec b cs); omega⟩) hS (fun x _ h => Or.inr (show s.heap.size ≤ x by rw [show x = qT from h]; exact hlT)) (fun x h => Or.inr (show s.heap.size ≤ x by rw [show x = qT from h]; exact hlT)) (fun u t H1 locs ht hvm hw7 hNT hz9 hk hS => ?_)
      subst ht
      have hM := hM.but hK (q := (RX15, TX15, 1)) hT rfl (by decide +kernel) (fun e9 => hlo9 _ hlT (Or.inl e9)) (fun e9 => hlo9 _ hlT (Or.inr e9)) (fun x h1 h2 => hk x h1 h2)
      have hX := hX.kept (fun x h1 h2 h3 => hk x h3 (fun e9 => by have e8 : x = qT := e9; omega))
      have hTl : qT < t.heap.size := hNT.lt
      refine lv_astore_n (lv' := [(3, .ref qT), (2, .int (nI (k + 1))), (0, .ref rd), (1, .int (nI a))]) hx hb dX8_not_103 rfl hl (by decide) rfl (fun ls hl => ?_)
      refine lv_iinc (v := nI (k + 1) + Int32.ofInt (-1)) (lv' := [(2, .int (nI (k + 1) + Int32.ofInt (-1))), (3, .ref qT), (0, .ref rd), (1, .int (nI a))]) hx hb dX8_not_104 hl (k := 1) rfl rfl (by decide) rfl (fun ls hl => ?_)
      rw [nI_m1] at hl
      refine lv_goto (tgt := 91) hx hb dX8_not_107 (by decide) ?_
      exact ih b1 (cs1 ++ [10028]) qT _ _ _ _ _ _ (by omega) hbn (by rw [hR9, List.replicate_succ, List.append_assoc]; rfl) (by omega) (by omega) hM (Nat.le_refl _) (EXq.not (hX.wide (Nat.le_refl _) (by omega)) hNT hlT hTl) hS hl
  have cmp : ¬ a = 6 → ∀ (k : Nat) (b1 : Nat) (cs1 : List Nat) (q1 hi1 : Nat) (H : Heap) (locs : List Loc) (ls : Array Slot) (cells slots : Nat), k < 8 → b1 ≤ n → b ≤ b1 → pNot tp n rec b cs = eR (pCmp tp n rec (b1, cs1)) (fun z => .ok (z.1, z.2 ++ List.replicate k 10028)) → cells + k ≤ 16 * (b1 - b) → slots + k ≤ 64 * (b1 - b) → RW D cA z0 E tp n rd ha tx g b1 s H → hi1 ≤ H.size → EXq D E s.heap.size hi1 H cs cs1 q1 → va_S (RA rd ha s.heap.size) s.heap H locs → lv_has ls 5 [(3, .ref q1), (2, .int (nI k)), (0, .ref rd), (1, .int (nI a))] → W p l e (headSpec (ws_ yX8_not cX8_not 5 (some (.object "StrangeKnives$Expr"))) ({ frames := 6 * d + 18, cells := 16 * cst n b (pNot tp n rec b cs), slots := 64 * cst n b (pNot tp n rec b cs), locals := 40 * (6 * d + 18) + 600 })).room s m ([.ref rd, .int (nI a)] : List Value).toArray below meth c H locs cells slots (vy_MQ below (va_Qr (fun x : Nat × List Nat => pNot tp n rec b cs = .ok x) (fun x q t => RW D cA z0 E tp n rd ha tx g x.1 t t.heap ∧ EXq D E s.heap.size t.heap.size t.heap cs x.2 q) (RA rd ha s.heap.size)) (YX D (fun e => pNot tp n rec b cs = .error e) (RA rd ha s.heap.size)) ([.ref rd, .int (nI a)] : List Value).toArray s (16 * cst n b (pNot tp n rec b cs)) (64 * cst n b (pNot tp n rec b cs)) (RA rd ha s.heap.size)) (F0 m 43 ls []) := by
    intro ha6 k b1 cs1 q1 hi1 H locs ls cells slots hk8 hbn hbb hR9 hce hse hM hhi hX hS hl
    have hKb : b1 - b ≤ cst n b (pNot tp n rec b cs) := by rw [hR9]; exact cst_low hbn (fun z9 h9 => by obtain ⟨u9, h8, h7⟩ := eR_ok h9; cases h7; exact ((show _ from hm.cmp) b1 cs1 u9 hbn h8).1)
    have more : ∀ (ch c0 : Nat) (ac : Int32 × Int32), ac ∈ xops → ac.1 = nI ch → sgN c0 = ac.2 → (narrow .char (.int (nI ch)) = .int (nI ch) ∧ fits .char (.int (nI ch)) = true) → sgS tp n ch b1 = true → cdS tp n 60 10024 61 10025 b1 = some c0 → ∀ (H : Heap) (locs : List Loc) (ls : Array Slot), RW D cA z0 E tp n rd ha tx g b1 s H → hi1 ≤ H.size → EXq D E s.heap.size hi1 H cs cs1 q1 → va_S (RA rd ha s.heap.size) s.heap H locs → lv_has ls 5 [(3, .ref q1), (2, .int (nI k)), (0, .ref rd), (1, .int (nI a))] → W p l e (headSpec (ws_ yX8_not cX8_not 5 (some (.object "StrangeKnives$Expr"))) ({ frames := 6 * d + 18, cells := 16 * cst n b (pNot tp n rec b cs), slots := 64 * cst n b (pNot tp n rec b cs), locals := 40 * (6 * d + 18) + 600 })).room s m ([.ref rd, .int (nI a)] : List Value).toArray below meth c H locs cells slots (vy_MQ below (va_Qr (fun x : Nat × List Nat => pNot tp n rec b cs = .ok x) (fun x q t => RW D cA z0 E tp n rd ha tx g x.1 t t.heap ∧ EXq D E s.heap.size t.heap.size t.heap cs x.2 q) (RA rd ha s.heap.size)) (YX D (fun e => pNot tp n rec b cs = .error e) (RA rd ha s.heap.size)) ([.ref rd, .int (nI a)] : List Value).toArray s (16 * cst n b (pNot tp n rec b cs)) (64 * cst n b (pNot tp n rec b cs)) (RA rd ha s.heap.size)) (F0 m 61 ls []) := by
      intro ch c9 ac hop hac1 hac2 hcn hsg hcd H locs ls hM hhi hX hS hl
      have hbl := sg_lt hsg
      have hnx := nxt_lt (tp := tp) hbl
      have hR8 : pNot tp n rec b cs = eR (pSum tp n rec (nxt tp n b1) cs1) (fun z => .ok (z.1, (z.2 ++ [c9]) ++ List.replicate k 10028)) := by
        rw [hR9]
        have e9 : pCmp tp n rec (b1, cs1) = eR (pSum tp n rec (nxt tp n b1) cs1) (fun z => .ok (z.1, z.2 ++ [c9])) := by
          show (match cdS tp n 60 10024 61 10025 b1 with | none => _ | some c => _) = _
          rw [hcd]
        rw [e9]
        cases pSum tp n rec (nxt tp n b1) cs1 <;> rfl
      have hK2 : cst n (nxt tp n b1) (pSum tp n rec (nxt tp n b1) cs1) + (nxt tp n b1 - b) ≤ cst n b (pNot tp n rec b cs) := by
        rw [hR8]
        exact Nat.le_trans (cst_ge (by omega) (nxt_le hbn).2 (fun x9 h9 => (hms _ _ _ (nxt_le hbn).2 h9).1)) (cst_bind (fun x9 h9 => (hms _ _ _ (nxt_le hbn).2 h9).2) (fun x9 y9 h9 h8 => by cases h8; exact Nat.le_refl _))
      obtain ⟨v, lg, w, wv, hr, hh, hnum, hW, hwz⟩ := id hM
      refine lv_aload_n hx hb dX8_not_61 rfl (lv_at hl 2 rfl) ?_
      refine h_get (C := RX8) (T := TX8) (N := 9) (ci := 6) (v := .ref w) hx hb hts in_X8 hown hK hr rfl 7 (by decide) (hts _ q1084) (fun _ h9 => h9) rfl dX8_not_62 ?_
      refine lv_iconst (v := nI 0) hx hb dX8_not_65 (by decide) ?_
      have hW9 : SR NoA s H w wv [ch] := by rw [← sg_wd hsg]; exact hW.narrow (fun q h => h.elim)
      have hC9 : SC NoA s H := SC.narrow (A := RA rd ha s.heap.size) (SC.kept (SC.narrow (A := ZA z0) ⟨hZ.1.2.1, hZ.1.2.2.2.2.2.2.2.2⟩ hAZ) hS.2.1) (fun q h => h.elim)
      refine R_callI (As := [.int (nI 0)]) (rest := []) (C := "java/lang/String") ⟨hx, hb, hml, hown, hts⟩ hS (metJ9_charAt l (q := w) (v := wv) (tx := [ch]) (i := 0) Nat.one_pos) SRU.blind (fun U hU hW => ⟨by rw [hU]; exact hW9.moved hW.alike, by rw [hU]; exact hC9.moved hW.alike⟩) (by obtain ⟨cell, g1, g2, g3, -⟩ := hW9.1; exact ⟨cell, g1, g2, g3⟩) (cwV 1 hts (lw_V q1287 q1288 q1289 q115 q1290) rfl rfl rfl (by decide +kernel) ⟨by show (7) + 1 ≤ 6 * d + 18; omega, by show 8 + (2 + 11) + (220) ≤ 40 * (6 * d + 18) + 600; omega⟩) rfl hl.1 rfl (Nat.le_of_ble_eq_true rfl) dX8_not_66 ⟨by show _ ≤ 16 * cst n b (pNot tp n rec b cs); omega, by show _ ≤ 64 * cst n b (pNot tp n rec b cs); omega⟩ (fun r9 H1 locs hw hk hS => ?_)
      subst hw
      have hsz9 := size_le hk
      have hM := hM.kept hk
      have hX := hX.kept (fun x h1 h2 h3 => hk x h3)
      rw [show ([ch] : List Nat).getD 0 0 = ch from rfl]
      refine lv_istore (lv' := [(4, .int (nI ch)), (3, .ref q1), (2, .int (nI k)), (0, .ref rd), (1, .int (nI a))]) hx hb dX8_not_69 hl (by decide) rfl (fun ls hl => ?_)
      refine lv_aload_n hx hb dX8_not_71 rfl (lv_at hl 3 rfl) ?_
      refine R_go (rest := []) ⟨hx, hb, hml, hown, hts⟩ hF hbn hM hS hA0 hAz htx q1010 ⟨by show _ ≤ 6 * d + 18; omega, by show _ ≤ 40 * (6 * d + 18) + 600; omega⟩ hl.1 (Nat.le_of_ble_eq_true rfl) dX8_not_72 ⟨by show _ ≤ 16 * cst n b (pNot tp n rec b cs); omega, by show _ ≤ 64 * cst n b (pNot tp n rec b cs); omega⟩ (fun H1 locs hM hsz9 hk hS => ?_)
      have hX := hX.kept (fun x h1 h2 h3 => hk x h3 (hlo9 x (by omega)))
      have hbn0 := hbn
      have hbn := (nxt_le (tp := tp) hbn).2
      have hsH := hS.1
      refine h_newO (ci := 11) (fs := [.int 0, .null, .null]) (C := RX14) (T := TX14) (N := 3) hx hb hts in_X14 tyX14 tyX14_ok hown (hts _ q1302) (hts _ q1303) (hts _ q138) hK hS rfl (fun j hj => by rcases (show j = 0 ∨ j = 1 ∨ j = 2 by omega) with rfl | rfl | rfl <;> rfl) (by show _ ≤ 16 * cst n b (pNot tp n rec b cs); omega) (by show _ ≤ 64 * cst n b (pNot tp n rec b cs); omega) dX8_not_75 (fun H2 hT oq hz hS => ?_)
      have hM := hM.kept oq
      have hX := hX.kept (fun x h1 h2 h3 => oq x h3)
      obtain ⟨qT, hqT⟩ : ∃ q, H1.size = q := ⟨_, rfl⟩
      rw [hqT] at hT hz ⊢
      have hlT : s.heap.size ≤ qT := by omega
      have hgT := hT.lt
      refine lv_dup hx hb dX8_not_78 rfl ?_
      refine lv_iload hx hb dX8_not_79 (lv_at hl 0 rfl) ?_
      refine lv_aload_n hx hb dX8_not_81 rfl (lv_at hl 1 rfl) ?_
      refine lv_aload_n hx hb dX8_not_82 rfl (lv_at hl 3 rfl) ?_
      refine lv_iload_n hx hb dX8_not_83 rfl (lv_at hl 4 rfl) ?_
      refine Y_r (rest := [.ref q1, .int (nI ch), .ref qT, .ref qT]) ⟨hx, hb, hml, hown, hts⟩ hF hbn hM hS hA0 hAz htx het hlocks (hsub g (nxt tp n b1) _ cs1 hbn (fun h9 => absurd h9 ha6)) (cwV 1 hts (lw_V q1224 q1226 qs30 q131 q1227) rfl rfl rfl (by decide +kernel) ⟨by show (6 * d + 17) + 1 ≤ 6 * d + 18; omega, by show 8 + (4 + 11) + (40 * (6 * d + 17) + 600) ≤ 40 * (6 * d + 18) + 600; omega⟩) (fun e9 he9 => by rw [hR8, he9]; rfl) rfl hl.1 rfl (Nat.le_of_ble_eq_true rfl) dX8_not_84 ⟨by show _ ≤ 16 * cst n b (pNot tp n rec b cs); omega, by show _ ≤ 64 * cst n b (pNot tp n rec b cs); omega⟩ (fun _ _ => by omega) (fun _ _ => by omega) (fun x9 qE t H1 locs ht hvm hw hB hsz9 hk hS => ?_)
      subst ht
      obtain ⟨hM, hXqE⟩ := hB
      have hM := hM.moved hvm.symm
      have hT := hT.kept (hk _ hT.lt (hlo9 _ (by omega)))
      have hX := hX.kept (fun x h1 h2 h3 => hk x h3 (hlo9 x (by omega)))
      have hmo := hms _ _ _ hbn hw
      have hkE : cst n (nxt tp n b1) (pSum tp n rec (nxt tp n b1) cs1) = x9.1 - nxt tp n b1 := by rw [hw]; rfl
      have hbn := hmo.2
      have hsz9 := hT.lt
      refine va_callv (va_runI (As := [.int (nI ch), .ref q1, .ref qE]) (rest := [.ref qT]) ⟨hx, hb, hml, hown, hts⟩ (metX14_init l (D := D) (cA := cA) (q := qT) (ac := nI ch) (x := q1) (y := qE) hcn) (cwI 3 hts (lw_meth q1306) rfl rfl rfl (hts _ q138) (hts _ q1304) (hts _ q1305) rfl (by decide +kernel) ⟨by show (2) + 1 ≤ 6 * d + 18; omega, by show 8 + (4 + 11) + (80) ≤ 40 * (6 * d + 18) + 600; omega⟩) ⟨NwU.blind.pc, fun U hU hW => ⟨rfl, NwU.go hT hK hZ.2.1 hU hW⟩⟩ rfl rfl hl.1 rfl (lv_room (Nat.le_of_ble_eq_true rfl)) dX8_not_87 ⟨by show _ ≤ 16 * cst n b (pNot tp n rec b cs); omega, by show _ ≤ 64 * cst n b (pNot tp n rec b cs); omega⟩) hS (fun x _ h => Or.inr (show s.heap.size ≤ x by rw [show x = qT from h]; exact hlT)) (fun x h => Or.inr (show s.heap.size ≤ x by rw [show x = qT from h]; exact hlT)) (fun u t H1 locs ht hvm hw7 hNT hz9 hk hS => ?_)
      subst ht
      have hM := hM.but hK (q := (RX14, TX14, 3)) hT rfl (by decide +kernel) (fun e9 => hlo9 _ hlT (Or.inl e9)) (fun e9 => hlo9 _ hlT (Or.inr e9)) (fun x h1 h2 => hk x h1 h2)
      have hX := hX.kept (fun x h1 h2 h3 => hk x h3 (fun e9 => by have e8 : x = qT := e9; omega))
      have hXqE := hXqE.kept (fun x h1 h2 h3 => hk x h3 (fun e9 => by have e8 : x = qT := e9; omega))
      have hTl : qT < t.heap.size := hNT.lt
      rw [← hac1] at hNT
      refine lv_astore_n (lv' := [(3, .ref qT), (4, .int (nI ch)), (2, .int (nI k)), (0, .ref rd), (1, .int (nI a))]) hx hb dX8_not_90 rfl hl (by decide) rfl (fun ls hl => ?_)
      exact tail k x9.1 (x9.2 ++ [c9]) qT _ _ _ _ _ _ hk8 hbn (by rw [hR8, hw]; rfl) (by omega) (by omega) hM (Nat.le_refl _) (EXq.both hop hac2 (hX.wide (Nat.le_refl _) (by omega)) (hXqE.wide (by omega) (by omega)) hNT hlT hTl) hS (lv_sub hl [2, 0, 3, 4] rfl)
    refine lv_aload_n hx hb dX8_not_43 rfl (lv_at hl 2 rfl) ?_
    refine va_ldcS hx hb hown (hZ.2.2.1 _ (List.mem_of_getElem? (i := 15) rfl)) dX8_not_44 ?_
    refine R_is (rest := []) ⟨hx, hb, hml, hown, hts⟩ hF hbn hM hS hAz htx (i := 15) (by decide) q1112 ⟨by show _ ≤ 6 * d + 18; omega, by show _ ≤ 40 * (6 * d + 18) + 600; omega⟩ hl.1 (Nat.le_of_ble_eq_true rfl) dX8_not_46 ⟨by show _ ≤ 16 * cst n b (pNot tp n rec b cs); omega, by show _ ≤ 64 * cst n b (pNot tp n rec b cs); omega⟩ (fun H1 locs hM hk hS => ?_)
    have hsz9 := size_le hk
    have hX := hX.kept (fun x h1 h2 h3 => hk x h3)
    rw [isR_sg (ch := 60) (by rfl) (by decide)]
    generalize hr9 : b2i (sgS tp n 60 b1) = r9
    rcases Bool.eq_false_or_eq_true (sgS tp n 60 b1) with hq0 | hq0
    · rw [hq0] at hr9
      subst hr9
      refine lv_if_ne (tgt := 61) hx hb dX8_not_49 (by decide) (fun c9 => ?_) (fun c9 => absurd c9 (by decide : ¬ b2i true = 0))
      exact more 60 10024 ((60, -24)) (by decide +kernel) (by decide +kernel) (by decide +kernel) (by decide +kernel) hq0 (by unfold cdS; rw [hq0]; rfl) _ _ _ hM (by omega) hX hS hl
    · rw [hq0] at hr9
      subst hr9
      refine lv_if_ne (tgt := 61) hx hb dX8_not_49 (by decide) (fun c9 => absurd (rfl : b2i false = 0) c9) (fun c9 => ?_)
      refine lv_aload_n hx hb dX8_not_52 rfl (lv_at hl 2 rfl) ?_
      refine va_ldcS hx hb hown (hZ.2.2.1 _ (List.mem_of_getElem? (i := 16) rfl)) dX8_not_53 ?_
      refine R_is (rest := []) ⟨hx, hb, hml, hown, hts⟩ hF hbn hM hS hAz htx (i := 16) (by decide) q1112 ⟨by show _ ≤ 6 * d + 18; omega, by show _ ≤ 40 * (6 * d + 18) + 600; omega⟩ hl.1 (Nat.le_of_ble_eq_true rfl) dX8_not_55 ⟨by show _ ≤ 16 * cst n b (pNot tp n rec b cs); omega, by show _ ≤ 64 * cst n b (pNot tp n rec b cs); omega⟩ (fun H1 locs hM hk hS => ?_)
      have hsz9 := size_le hk
      have hX := hX.kept (fun x h1 h2 h3 => hk x h3)
      rw [isR_sg (ch := 61) (by rfl) (by decide)]
      generalize hr9 : b2i (sgS tp n 61 b1) = r9
      rcases Bool.eq_false_or_eq_true (sgS tp n 61 b1) with hq1 | hq1
      · rw [hq1] at hr9
        subst hr9
        refine lv_if_eq (tgt := 91) hx hb dX8_not_58 (by decide) (fun c9 => absurd c9 (by decide : ¬ b2i true = 0)) (fun c9 => ?_)
        exact more 61 10025 ((61, -25)) (by decide +kernel) (by decide +kernel) (by decide +kernel) (by decide +kernel) hq1 (by unfold cdS; rw [hq0, hq1]; rfl) _ _ _ hM (by omega) hX hS hl
      · rw [hq1] at hr9
        subst hr9
        refine lv_if_eq (tgt := 91) hx hb dX8_not_58 (by decide) (fun c9 => ?_) (fun c9 => absurd (rfl : b2i false = 0) c9)
        have hR : pNot tp n rec b cs = .ok (b1, cs1 ++ List.replicate k 10028) := by
          rw [hR9]
          have e9 : pCmp tp n rec (b1, cs1) = .ok (b1, cs1) := by
            show (match cdS tp n 60 10024 61 10025 b1 with | none => _ | some c => _) = _
            rw [show cdS tp n 60 10024 61 10025 b1 = none from by unfold cdS; rw [hq0, hq1]; rfl]
          rw [e9]
          rfl
        exact tail k b1 cs1 q1 _ _ _ _ _ _ hk8 hbn hR hce hse hM (by omega : hi1 ≤ _) hX hS (lv_sub hl [1, 0, 2, 3] rfl)
  have loop : ∀ (fu k : Nat) (b1 : Nat) (H : Heap) (locs : List Loc) (ls : Array Slot) (cells slots : Nat), fu + k = 8 → k ≤ 6 → b1 ≤ n → b + k ≤ b1 → (a = 6 → b1 = b) → pNot tp n rec b cs = eR (pNots tp n fu b1 k) (aftN tp n rec cs) → cells ≤ 4 * k → slots ≤ 24 * k → RW D cA z0 E tp n rd ha tx g b1 s H → va_S (RA rd ha s.heap.size) s.heap H locs → lv_has ls 5 [(2, .int (nI k)), (0, .ref rd), (1, .int (nI a))] → W p l e (headSpec (ws_ yX8_not cX8_not 5 (some (.object "StrangeKnives$Expr"))) ({ frames := 6 * d + 18, cells := 16 * cst n b (pNot tp n rec b cs), slots := 64 * cst n b (pNot tp n rec b cs), locals := 40 * (6 * d + 18) + 600 })).room s m ([.ref rd, .int (nI a)] : List Value).toArray below meth c H locs cells slots (vy_MQ below (va_Qr (fun x : Nat × List Nat => pNot tp n rec b cs = .ok x) (fun x q t => RW D cA z0 E tp n rd ha tx g x.1 t t.heap ∧ EXq D E s.heap.size t.heap.size t.heap cs x.2 q) (RA rd ha s.heap.size)) (YX D (fun e => pNot tp n rec b cs = .error e) (RA rd ha s.heap.size)) ([.ref rd, .int (nI a)] : List Value).toArray s (16 * cst n b (pNot tp n rec b cs)) (64 * cst n b (pNot tp n rec b cs)) (RA rd ha s.heap.size)) (F0 m 2 ls []) := by
    intro fu
    induction fu with
    | zero => intro k b1 H locs ls cells slots h1 h2; omega
    | succ fu ih =>
      intro k b1 H locs ls cells slots hfu hk6 hbn hbb h6b hR9 hce hse hM hS hl
      have hKb : b1 - b ≤ cst n b (pNot tp n rec b cs) := by rw [hR9]; exact cst_low hbn (fun z9 h9 => nots_aft hm hbn h9)
      have hun : pNots tp n (fu + 1) b1 k = if wdS tp n 14 b1 = true then (if k = 6 then .error (2, b1) else pNots tp n fu (nxt tp n b1) (k + 1)) else .ok (b1, k) := rfl
      refine lv_aload_n hx hb dX8_not_2 rfl (lv_at hl 1 rfl) ?_
      refine va_ldcS hx hb hown (hZ.2.2.1 _ (List.mem_of_getElem? (i := 14) rfl)) dX8_not_3 ?_
      refine R_is (rest := []) ⟨hx, hb, hml, hown, hts⟩ hF hbn hM hS hAz htx (i := 14) (by decide) q1112 ⟨by show _ ≤ 6 * d + 18; omega, by show _ ≤ 40 * (6 * d + 18) + 600; omega⟩ hl.1 (Nat.le_of_ble_eq_true rfl) dX8_not_5 ⟨by show _ ≤ 16 * cst n b (pNot tp n rec b cs); omega, by show _ ≤ 64 * cst n b (pNot tp n rec b cs); omega⟩ (fun H1 locs hM hk hS => ?_)
      have hsz9 := size_le hk
      rw [isR_wd (by decide +kernel)]
      generalize hr9 : b2i (wdS tp n 14 b1) = r9
      rcases Bool.eq_false_or_eq_true (wdS tp n 14 b1) with hq | hq
      · rw [hq] at hr9
        subst hr9
        refine lv_if_eq (tgt := 37) hx hb dX8_not_8 (by decide) (fun c9 => absurd c9 (by decide : ¬ b2i true = 0)) (fun c9 => ?_)
        have hbl := wd_lt hq
        have hnx := nxt_lt (tp := tp) hbl
        rw [if_pos hq] at hun
        have ha6 : ¬ a = 6 := fun h9 => by have h8 := (exB_sg (h6 h9)).2.1; rw [← h6b h9] at h8; rw [wd_ty h8] at hq; cases hq
        refine lv_aload_n hx hb dX8_not_11 rfl (lv_at hl 1 rfl) ?_
        refine lv_iload_n hx hb dX8_not_12 rfl (lv_at hl 0 rfl) ?_
        refine lv_bipush (v := 6) hx hb dX8_not_13 (by decide) ?_
        refine lv_icmp_ge (tgt := 22) hx hb dX8_not_15 (by decide) (fun c1 => ?_) (fun c1 => ?_)
        · have hk : k = 6 := by
            rcases Nat.lt_or_ge k 6 with h9 | h9
            · exact absurd c1 (nI_ge (b := 6) h9 (by decide))
            · omega
          have hR : pNot tp n rec b cs = .error (2, b1) := by rw [hR9, hun, if_pos hk]; rfl
          have hKv : cst n b (pNot tp n rec b cs) = n - b + 1 := by rw [hR]; rfl
          refine lv_iconst (v := 0) hx hb dX8_not_22 (by decide) ?_
          refine lv_iconst (v := 2) hx hb dX8_not_23 (by decide) ?_
          exact R_chk0 (rest := []) (k9 := 2) ⟨hx, hb, hml, hown, hts⟩ hlt hF hbn hM hS hA0 hAz htx het hlocks (hR) rfl q1124 ⟨by show _ ≤ 6 * d + 18; omega, by show _ ≤ 40 * (6 * d + 18) + 600; omega⟩ hl.1 (Nat.le_of_ble_eq_true rfl) dX8_not_24 ⟨by show _ ≤ 16 * cst n b (pNot tp n rec b cs); omega, by show _ ≤ 64 * cst n b (pNot tp n rec b cs); omega⟩ (by omega) (by omega)
        · have hk : ¬ k = 6 := fun h9 => c1 (by rw [h9]; decide)
          have hR8 : pNot tp n rec b cs = eR (pNots tp n fu (nxt tp n b1) (k + 1)) (aftN tp n rec cs) := by rw [hR9, hun, if_neg hk]
          have hKc : nxt tp n b1 - b ≤ cst n b (pNot tp n rec b cs) := by rw [hR8]; exact cst_low (nxt_le hbn).2 (fun z9 h9 => nots_aft hm (nxt_le hbn).2 h9)
          refine lv_iconst (v := 1) hx hb dX8_not_18 (by decide) ?_
          refine lv_goto (tgt := 23) hx hb dX8_not_19 (by decide) ?_
          refine lv_iconst (v := 2) hx hb dX8_not_23 (by decide) ?_
          refine R_chk1 (rest := []) ⟨hx, hb, hml, hown, hts⟩ hF hbn hM hS hAz htx q1124 ⟨by show _ ≤ 6 * d + 18; omega, by show _ ≤ 40 * (6 * d + 18) + 600; omega⟩ hl.1 (Nat.le_of_ble_eq_true rfl) dX8_not_24 ⟨by show _ ≤ 16 * cst n b (pNot tp n rec b cs); omega, by show _ ≤ 64 * cst n b (pNot tp n rec b cs); omega⟩ (fun H1 locs hM hk hS => ?_)
          have hsz9 := size_le hk
          refine lv_aload_n hx hb dX8_not_27 rfl (lv_at hl 1 rfl) ?_
          refine R_go (rest := []) ⟨hx, hb, hml, hown, hts⟩ hF hbn hM hS hA0 hAz htx q1010 ⟨by show _ ≤ 6 * d + 18; omega, by show _ ≤ 40 * (6 * d + 18) + 600; omega⟩ hl.1 (Nat.le_of_ble_eq_true rfl) dX8_not_28 ⟨by show _ ≤ 16 * cst n b (pNot tp n rec b cs); omega, by show _ ≤ 64 * cst n b (pNot tp n rec b cs); omega⟩ (fun H1 locs hM hsz9 hk hS => ?_)
          have hbn0 := hbn
          have hbn := (nxt_le (tp := tp) hbn).2
          refine lv_iinc (v := nI k + 1) (lv' := [(2, .int (nI k + 1)), (0, .ref rd), (1, .int (nI a))]) hx hb dX8_not_31 hl (k := 0) rfl rfl (by decide) rfl (fun ls hl => ?_)
          rw [nI_1] at hl
          refine lv_goto (tgt := 2) hx hb dX8_not_34 (by decide) ?_
          exact ih (k + 1) (nxt tp n b1) _ _ _ _ _ (by omega) (by omega) hbn (by omega) (fun h9 => absurd h9 ha6) hR8 (by omega) (by omega) hM hS hl
      · rw [hq] at hr9
        subst hr9
        refine lv_if_eq (tgt := 37) hx hb dX8_not_8 (by decide) (fun c9 => ?_) (fun c9 => absurd (rfl : b2i false = 0) c9)
        rw [if_neg (by rw [hq]; decide)] at hun
        have hR8 : pNot tp n rec b cs = eR (pSum tp n rec b1 cs) (fun x => eR (pCmp tp n rec x) (fun z => .ok (z.1, z.2 ++ List.replicate k 10028))) := by rw [hR9, hun]; rfl
        have hK2 : cst n b1 (pSum tp n rec b1 cs) + (b1 - b) ≤ cst n b (pNot tp n rec b cs) := by
          rw [hR8]
          exact Nat.le_trans (cst_ge (by omega) hbn (fun x9 h9 => (hms _ _ _ hbn h9).1)) (cst_bind (fun x9 h9 => (hms _ _ _ hbn h9).2) (fun x9 y9 h9 h8 => by obtain ⟨u9, h7, h5⟩ := eR_ok h8; cases h5; exact ((show _ from hm.cmp) x9.1 x9.2 u9 (hms _ _ _ hbn h9).2 h7).1))
        refine lv_aload_n hx hb dX8_not_37 rfl (lv_at hl 1 rfl) ?_
        refine lv_iload_n hx hb dX8_not_38 rfl (lv_at hl 2 rfl) ?_
        have hS0 := hS
        refine Y_r (rest := []) ⟨hx, hb, hml, hown, hts⟩ hF hbn hM hS hA0 hAz htx het hlocks (hsub g b1 _ cs hbn (fun h9 => by rw [h6b h9]; exact h6 h9)) (cwV 1 hts (lw_V q1224 q1226 qs30 q131 q1227) rfl rfl rfl (by decide +kernel) ⟨by show (6 * d + 17) + 1 ≤ 6 * d + 18; omega, by show 8 + (4 + 11) + (40 * (6 * d + 17) + 600) ≤ 40 * (6 * d + 18) + 600; omega⟩) (fun e9 he9 => by rw [hR8, he9]; rfl) rfl hl.1 rfl (Nat.le_of_ble_eq_true rfl) dX8_not_39 ⟨by show _ ≤ 16 * cst n b (pNot tp n rec b cs); omega, by show _ ≤ 64 * cst n b (pNot tp n rec b cs); omega⟩ (fun _ _ => by omega) (fun _ _ => by omega) (fun x9 qE t H1 locs ht hvm hw hB hsz9 hk hS => ?_)
        subst ht
        obtain ⟨hM, hXqE⟩ := hB
        have hM := hM.moved hvm.symm
        have hmo := hms _ _ _ hbn hw
        have hkE : cst n b1 (pSum tp n rec b1 cs) = x9.1 - b1 := by rw [hw]; rfl
        have ha6 : ¬ a = 6 := fun h9 => by rw [h6b h9, bad_sum (h6 h9)] at hw; cases hw
        refine lv_astore_n (lv' := [(3, .ref qE), (2, .int (nI k)), (0, .ref rd), (1, .int (nI a))]) hx hb dX8_not_42 rfl hl (by decide) rfl (fun ls hl => ?_)
        exact cmp ha6 k x9.1 x9.2 qE _ _ _ _ _ _ (by omega) hmo.2 (by omega) (by rw [hR8, hw]; rfl) (by omega) (by omega) hM (Nat.le_refl _) (hXqE.wide hS0.1 (Nat.le_refl _)) hS hl
  refine lv_iconst (v := nI 0) hx hb dX8_not_0 (by decide) ?_
  refine lv_istore_n (lv' := [(2, .int (nI 0)), (0, .ref rd), (1, .int (nI a))]) hx hb dX8_not_1 rfl hl (by decide) rfl (fun ls hl => ?_)
  exact loop 8 0 b _ _ _ _ _ rfl (by decide) hbn (Nat.le_refl _) (fun _ => rfl) not_aft (Nat.zero_le _) (Nat.zero_le _) hM hS hl
set_option maxHeartbeats 4000000 in
set_option maxRecDepth 100000 in
theorem metX8_expr1 (l : Launch) (hlt : l.stackTraces = false) {D : va_G} {cA : Nat → ClassId} {z0 : Nat} {E : Nat → Nat → Nat} {tp : Nat → Nat} {n : Nat} {f : Nat → Int32} {rd ha tx : Nat} {a d : Nat} (hd : a + d = 7) (h1d : 1 ≤ d) (hm : Mo n (pEx tp n (d + 1) (a + 1))) (hsub : EXC l D cA z0 E tp n f rd ha tx yX8_and (ws_ yX8_and cX8_and 3 (some (.object "StrangeKnives$Expr"))) (6 * d + 19) a (pAnd tp n (pEx tp n (d + 1) (a + 1))) (fun b => a = 6 → exB tp n b = false)) : EXC l D cA z0 E tp n f rd ha tx yX8_expr (ws_ yX8_expr cX8_expr 3 (some (.object "StrangeKnives$Expr"))) (6 * d + 20) a (pEx tp n (d + 2) a) (fun _ => True) := by
  intro g b sz cs hbn h6
  refine vy_ofW (cc := cX8_expr) (maxL := 3) (ret := (some (.object "StrangeKnives$Expr"))) (by decide) rfl ?_
  intro p e s m args below meth c s₁ B hml het hv
  obtain ⟨rfl, hv⟩ := hv
  have hx := B.exec
  have hb := B.bytes
  have hret := B.returns
  have hts := atoms_spec (ws := ws_ yX8_expr cX8_expr 3 (some (.object "StrangeKnives$Expr"))) B.pre
  have hts : ∀ w ∈ lw_all, w.before _ s = true := fun w h => hts w (List.mem_cons_of_mem _ h)
  have hown : s.vm.findClass RX8 = some m.cls := findClass_of_methodNamed B.named
  have hlocks := B.notSynchronized
  have hS : va_S (RA rd ha sz) s.heap s.heap [] := va_S.rf
  have hl := lv_entry ([.ref rd, .int (nI a)]) (n := 3) (Nat.le_of_ble_eq_true rfl)
  rw [lg_entry_eq]
  generalize (lg_sl ([.ref rd, .int (nI a)]) ++ List.replicate (3 - (lg_sl ([.ref rd, .int (nI a)])).length) Slot.unset).toArray = ls at hl ⊢
  have hl : lv_has ls 3 [(0, .ref rd), (1, .int (nI a))] := hl
  obtain ⟨hsz, hM, hF, hbn⟩ := hv
  subst hsz
  have hz6 := hF.2.1.2.2.2.2.2
  have hK := hF.1
  have hZ := hF.2.1
  have hn6 := hF.2.2.2.1
  have hA0 : ∀ q, RA rd ha s.heap.size q → RA rd ha s.heap.size q := fun q h => h
  have hAz : ∀ q, RA rd ha s.heap.size q → z0 ≤ q := RAz (H := s.heap) hF
  have hAZ : ∀ q, RA rd ha s.heap.size q → ZA z0 q := hAz
  have htx : ¬ RA rd ha s.heap.size tx := RAtx hF
  have hty := ty_le (tp := tp) (n := n) b
  have hrl : rd < s.heap.size ∧ ha < s.heap.size := by obtain ⟨v, lg, w, wv, h1, h2, -⟩ := hM; exact ⟨h1.lt, h2.lt⟩
  have hlo9 : ∀ x, s.heap.size ≤ x → ¬ R2 rd ha x := fun x h9 h8 => h8.elim (fun e9 => by omega) (fun e9 => by omega)
  refine W_h (fun H hk0 hz0 => ?_)
  have hM := hM.kept (H1 := H) (fun q _ => hk0 q)
  have hS : va_S (RA rd ha s.heap.size) s.heap H [] := ⟨Nat.le_of_eq hz0.symm, fun q _ _ => hk0 q, fun _ h => by cases h⟩
  have hun : pEx tp n (d + 2) a b cs = if exB tp n b = false then .error (1, b) else if a = 6 then .error (2, b) else eR (pAnd tp n (pEx tp n (d + 1) (a + 1)) b cs) (fun x => pLoop tp n (cdW tp n 12 10027) (pAnd tp n (pEx tp n (d + 1) (a + 1))) (n + 1) x.1 x.2) := rfl
  have hms : Mo n (pAnd tp n (pEx tp n (d + 1) (a + 1))) := hm.and
  have at45 : (a = 6 → exB tp n b = false) → ∀ (H : Heap) (locs : List Loc) (ls : Array Slot), RW D cA z0 E tp n rd ha tx g b s H → va_S (RA rd ha s.heap.size) s.heap H locs → lv_has ls 3 [(0, .ref rd), (1, .int (nI a))] → W p l e (headSpec (ws_ yX8_expr cX8_expr 3 (some (.object "StrangeKnives$Expr"))) ({ frames := 6 * d + 20, cells := 16 * cst n b (pEx tp n (d + 2) a b cs), slots := 64 * cst n b (pEx tp n (d + 2) a b cs), locals := 40 * (6 * d + 20) + 600 })).room s m ([.ref rd, .int (nI a)] : List Value).toArray below meth c H locs 0 0 (vy_MQ below (va_Qr (fun x : Nat × List Nat => pEx tp n (d + 2) a b cs = .ok x) (fun x q t => RW D cA z0 E tp n rd ha tx g x.1 t t.heap ∧ EXq D E s.heap.size t.heap.size t.heap cs x.2 q) (RA rd ha s.heap.size)) (YX D (fun e => pEx tp n (d + 2) a b cs = .error e) (RA rd ha s.heap.size)) ([.ref rd, .int (nI a)] : List Value).toArray s (16 * cst n b (pEx tp n (d + 2) a b cs)) (64 * cst n b (pEx tp n (d + 2) a b cs)) (RA rd ha s.heap.size)) (F0 m 45 ls []) := by
    intro h6 H locs ls hM hS hl
    rcases Bool.eq_false_or_eq_true (exB tp n b) with hq | hq
    · have ha69 : ¬ a = 6 := fun h9 => by rw [h6 h9] at hq; cases hq
      have hF8 : pEx tp n (d + 2) a b cs = eR (pAnd tp n (pEx tp n (d + 1) (a + 1)) b cs) (fun x => pLoop tp n (cdW tp n 12 10027) (pAnd tp n (pEx tp n (d + 1) (a + 1))) (n + 1) x.1 x.2) := by rw [hun, if_neg (by rw [hq]; decide), if_neg ha69]
      have hms : Mo n (pAnd tp n (pEx tp n (d + 1) (a + 1))) := hm.and
      have hF9 : pEx tp n (d + 2) a b cs = eR (pAnd tp n (pEx tp n (d + 1) (a + 1)) b cs) (fun x => pLoop tp n (cdW tp n 12 10027) (pAnd tp n (pEx tp n (d + 1) (a + 1))) (n + 1) x.1 x.2) := hF8
      have hK1 : cst n b (pAnd tp n (pEx tp n (d + 1) (a + 1)) b cs) ≤ cst n b (pEx tp n (d + 2) a b cs) := by rw [hF9]; exact cst_bind (fun x9 h9 => (hms _ _ _ hbn h9).2) (fun x9 y9 h9 h8 => (Mo.loop hms (n + 1) _ _ _ (hms _ _ _ hbn h9).2 h8).1)
      have loop : ¬ a = 6 → ∀ (fu b1 : Nat) (cs1 : List Nat) (q1 hi1 : Nat) (H : Heap) (locs : List Loc) (ls : Array Slot) (cells slots : Nat), n < b1 + fu → b1 ≤ n → b ≤ b1 → pEx tp n (d + 2) a b cs = pLoop tp n (cdW tp n 12 10027) (pAnd tp n (pEx tp n (d + 1) (a + 1))) fu b1 cs1 → cells ≤ 16 * (b1 - b) → slots ≤ 64 * (b1 - b) → RW D cA z0 E tp n rd ha tx g b1 s H → hi1 ≤ H.size → EXq D E s.heap.size hi1 H cs cs1 q1 → va_S (RA rd ha s.heap.size) s.heap H locs → lv_has ls 3 [(2, .ref q1), (0, .ref rd), (1, .int (nI a))] → W p l e (headSpec (ws_ yX8_expr cX8_expr 3 (some (.object "StrangeKnives$Expr"))) ({ frames := 6 * d + 20, cells := 16 * cst n b (pEx tp n (d + 2) a b cs), slots := 64 * cst n b (pEx tp n (d + 2) a b cs), locals := 40 * (6 * d + 20) + 600 })).room s m ([.ref rd, .int (nI a)] : List Value).toArray below meth c H locs cells slots (vy_MQ below (va_Qr (fun x : Nat × List Nat => pEx tp n (d + 2) a b cs = .ok x) (fun x q t => RW D cA z0 E tp n rd ha tx g x.1 t t.heap ∧ EXq D E s.heap.size t.heap.size t.heap cs x.2 q) (RA rd ha s.heap.size)) (YX D (fun e => pEx tp n (d + 2) a b cs = .error e) (RA rd ha s.heap.size)) ([.ref rd, .int (nI a)] : List Value).toArray s (16 * cst n b (pEx tp n (d + 2) a b cs)) (64 * cst n b (pEx tp n (d + 2) a b cs)) (RA rd ha s.heap.size)) (F0 m 51 ls []) := by
        intro ha6 fu
        induction fu with
        | zero => intro b1 cs1 q1 hi1 H locs ls cells slots hfu hbn; omega
        | succ fu ih =>
          intro b1 cs1 q1 hi1 H locs ls cells slots hfu hbn hbb hR9 hce hse hM hhi hX hS hl
          have hKb : cst n b1 (pLoop tp n (cdW tp n 12 10027) (pAnd tp n (pEx tp n (d + 1) (a + 1))) (fu + 1) b1 cs1) + (b1 - b) ≤ cst n b (pEx tp n (d + 2) a b cs) := by rw [hR9]; exact cst_ge hbb hbn (fun x9 h9 => (Mo.loop hms _ _ _ _ hbn h9).1)
          have more : ∀ (ch c0 : Nat) (ac : Int32 × Int32), ac ∈ xops → ac.1 = nI ch → sgN c0 = ac.2 → (narrow .char (.int (nI ch)) = .int (nI ch) ∧ fits .char (.int (nI ch)) = true) → nI ch = 124 → (cdW tp n 12 10027) b1 = some c0 → b1 < n → ∀ (H : Heap) (locs : List Loc) (ls : Array Slot), RW D cA z0 E tp n rd ha tx g b1 s H → hi1 ≤ H.size → EXq D E s.heap.size hi1 H cs cs1 q1 → va_S (RA rd ha s.heap.size) s.heap H locs → lv_has ls 3 [(2, .ref q1), (0, .ref rd), (1, .int (nI a))] → W p l e (headSpec (ws_ yX8_expr cX8_expr 3 (some (.object "StrangeKnives$Expr"))) ({ frames := 6 * d + 20, cells := 16 * cst n b (pEx tp n (d + 2) a b cs), slots := 64 * cst n b (pEx tp n (d + 2) a b cs), locals := 40 * (6 * d + 20) + 600 })).room s m ([.ref rd, .int (nI a)] : List Value).toArray below meth c H locs cells slots (vy_MQ below (va_Qr (fun x : Nat × List Nat => pEx tp n (d + 2) a b cs = .ok x) (fun x q t => RW D cA z0 E tp n rd ha tx g x.1 t t.heap ∧ EXq D E s.heap.size t.heap.size t.heap cs x.2 q) (RA rd ha s.heap.size)) (YX D (fun e => pEx tp n (d + 2) a b cs = .error e) (RA rd ha s.heap.size)) ([.ref rd, .int (nI a)] : List Value).toArray s (16 * cst n b (pEx tp n (d + 2) a b cs)) (64 * cst n b (pEx tp n (d + 2) a b cs)) (RA rd ha s.heap.size)) (F0 m 60 ls []) := by
            intro ch c9 ac hop hac1 hac2 hcn hsg hcd hbl H locs ls hM hhi hX hS hl
            have hnx := nxt_lt (tp := tp) hbl
            have hR8 : pLoop tp n (cdW tp n 12 10027) (pAnd tp n (pEx tp n (d + 1) (a + 1))) (fu + 1) b1 cs1 = eR (pAnd tp n (pEx tp n (d + 1) (a + 1)) (nxt tp n b1) cs1) (fun x => pLoop tp n (cdW tp n 12 10027) (pAnd tp n (pEx tp n (d + 1) (a + 1))) fu x.1 (x.2 ++ [c9])) := by
              show (match (cdW tp n 12 10027) b1 with | none => _ | some c => _) = _
              rw [hcd]
            have hK2 : cst n (nxt tp n b1) (pAnd tp n (pEx tp n (d + 1) (a + 1)) (nxt tp n b1) cs1) + (nxt tp n b1 - b1) ≤ cst n b1 (pLoop tp n (cdW tp n 12 10027) (pAnd tp n (pEx tp n (d + 1) (a + 1))) (fu + 1) b1 cs1) := by
              rw [hR8]
              exact Nat.le_trans (cst_ge (by omega) (nxt_le hbn).2 (fun x9 h9 => (hms _ _ _ (nxt_le hbn).2 h9).1)) (cst_bind (fun x9 h9 => (hms _ _ _ (nxt_le hbn).2 h9).2) (fun x9 y9 h9 h8 => (Mo.loop hms fu _ _ _ (hms _ _ _ (nxt_le hbn).2 h9).2 h8).1))
            refine lv_aload_n hx hb dX8_expr_60 rfl (lv_at hl 1 rfl) ?_
            refine R_go (rest := []) ⟨hx, hb, hml, hown, hts⟩ hF hbn hM hS hA0 hAz htx q1010 ⟨by show _ ≤ 6 * d + 20; omega, by show _ ≤ 40 * (6 * d + 20) + 600; omega⟩ hl.1 (Nat.le_of_ble_eq_true rfl) dX8_expr_61 ⟨by show _ ≤ 16 * cst n b (pEx tp n (d + 2) a b cs); omega, by show _ ≤ 64 * cst n b (pEx tp n (d + 2) a b cs); omega⟩ (fun H1 locs hM hsz9 hk hS => ?_)
            have hX := hX.kept (fun x h1 h2 h3 => hk x h3 (hlo9 x (by omega)))
            have hbn0 := hbn
            have hbn := (nxt_le (tp := tp) hbn).2
            have hsH := hS.1
            refine h_newO (ci := 11) (fs := [.int 0, .null, .null]) (C := RX14) (T := TX14) (N := 3) hx hb hts in_X14 tyX14 tyX14_ok hown (hts _ q1302) (hts _ q1303) (hts _ q138) hK hS rfl (fun j hj => by rcases (show j = 0 ∨ j = 1 ∨ j = 2 by omega) with rfl | rfl | rfl <;> rfl) (by show _ ≤ 16 * cst n b (pEx tp n (d + 2) a b cs); omega) (by show _ ≤ 64 * cst n b (pEx tp n (d + 2) a b cs); omega) dX8_expr_64 (fun H2 hT oq hz hS => ?_)
            have hM := hM.kept oq
            have hX := hX.kept (fun x h1 h2 h3 => oq x h3)
            obtain ⟨qT, hqT⟩ : ∃ q, H1.size = q := ⟨_, rfl⟩
            rw [hqT] at hT hz ⊢
            have hlT : s.heap.size ≤ qT := by omega
            have hgT := hT.lt
            refine lv_dup hx hb dX8_expr_67 rfl ?_
            refine lv_bipush (v := 124) hx hb dX8_expr_68 (by decide) ?_
            refine lv_aload_n hx hb dX8_expr_70 rfl (lv_at hl 0 rfl) ?_
            refine lv_aload_n hx hb dX8_expr_71 rfl (lv_at hl 1 rfl) ?_
            refine lv_iload_n hx hb dX8_expr_72 rfl (lv_at hl 2 rfl) ?_
            refine Y_r (rest := [.ref q1, .int 124, .ref qT, .ref qT]) ⟨hx, hb, hml, hown, hts⟩ hF hbn hM hS hA0 hAz htx het hlocks (hsub g (nxt tp n b1) _ cs1 hbn (fun h9 => absurd h9 ha6)) (cwV 1 hts (lw_V q1215 q1217 qs28 q131 q1218) rfl rfl rfl (by decide +kernel) ⟨by show (6 * d + 19) + 1 ≤ 6 * d + 20; omega, by show 8 + (3 + 11) + (40 * (6 * d + 19) + 600) ≤ 40 * (6 * d + 20) + 600; omega⟩) (fun e9 he9 => by rw [hR9, hR8, he9]; rfl) rfl hl.1 rfl (Nat.le_of_ble_eq_true rfl) dX8_expr_73 ⟨by show _ ≤ 16 * cst n b (pEx tp n (d + 2) a b cs); omega, by show _ ≤ 64 * cst n b (pEx tp n (d + 2) a b cs); omega⟩ (fun _ _ => by omega) (fun _ _ => by omega) (fun x9 qE t H1 locs ht hvm hw hB hsz9 hk hS => ?_)
            subst ht
            obtain ⟨hM, hXqE⟩ := hB
            have hM := hM.moved hvm.symm
            have hT := hT.kept (hk _ hT.lt (hlo9 _ (by omega)))
            have hX := hX.kept (fun x h1 h2 h3 => hk x h3 (hlo9 x (by omega)))
            have hmo := hms _ _ _ hbn hw
            have hkE : cst n (nxt tp n b1) (pAnd tp n (pEx tp n (d + 1) (a + 1)) (nxt tp n b1) cs1) = x9.1 - nxt tp n b1 := by rw [hw]; rfl
            have hbn := hmo.2
            rw [← hsg]
            have hsz9 := hT.lt
            refine va_callv (va_runI (As := [.int (nI ch), .ref q1, .ref qE]) (rest := [.ref qT]) ⟨hx, hb, hml, hown, hts⟩ (metX14_init l (D := D) (cA := cA) (q := qT) (ac := nI ch) (x := q1) (y := qE) hcn) (cwI 3 hts (lw_meth q1306) rfl rfl rfl (hts _ q138) (hts _ q1304) (hts _ q1305) rfl (by decide +kernel) ⟨by show (2) + 1 ≤ 6 * d + 20; omega, by show 8 + (4 + 11) + (80) ≤ 40 * (6 * d + 20) + 600; omega⟩) ⟨NwU.blind.pc, fun U hU hW => ⟨rfl, NwU.go hT hK hZ.2.1 hU hW⟩⟩ rfl rfl hl.1 rfl (lv_room (Nat.le_of_ble_eq_true rfl)) dX8_expr_76 ⟨by show _ ≤ 16 * cst n b (pEx tp n (d + 2) a b cs); omega, by show _ ≤ 64 * cst n b (pEx tp n (d + 2) a b cs); omega⟩) hS (fun x _ h => Or.inr (show s.heap.size ≤ x by rw [show x = qT from h]; exact hlT)) (fun x h => Or.inr (show s.heap.size ≤ x by rw [show x = qT from h]; exact hlT)) (fun u t H1 locs ht hvm hw7 hNT hz9 hk hS => ?_)
            subst ht
            have hM := hM.but hK (q := (RX14, TX14, 3)) hT rfl (by decide +kernel) (fun e9 => hlo9 _ hlT (Or.inl e9)) (fun e9 => hlo9 _ hlT (Or.inr e9)) (fun x h1 h2 => hk x h1 h2)
            have hX := hX.kept (fun x h1 h2 h3 => hk x h3 (fun e9 => by have e8 : x = qT := e9; omega))
            have hXqE := hXqE.kept (fun x h1 h2 h3 => hk x h3 (fun e9 => by have e8 : x = qT := e9; omega))
            have hTl : qT < t.heap.size := hNT.lt
            rw [← hac1] at hNT
            refine lv_astore_n (lv' := [(2, .ref qT), (0, .ref rd), (1, .int (nI a))]) hx hb dX8_expr_79 rfl hl (by decide) rfl (fun ls hl => ?_)
            refine lv_goto (tgt := 51) hx hb dX8_expr_80 (by decide) ?_
            exact ih x9.1 (x9.2 ++ [c9]) qT _ _ _ _ _ _ (by omega) hbn (by omega) (by rw [hR9, hR8, hw]; rfl) (by omega) (by omega) hM (Nat.le_refl _) (EXq.both hop hac2 (hX.wide (Nat.le_refl _) (by omega)) (hXqE.wide (by omega) (by omega)) hNT hlT hTl) hS (lv_sub hl [0, 1, 2] rfl)
          refine lv_aload_n hx hb dX8_expr_51 rfl (lv_at hl 1 rfl) ?_
          refine va_ldcS hx hb hown (hZ.2.2.1 _ (List.mem_of_getElem? (i := 12) rfl)) dX8_expr_52 ?_
          refine R_is (rest := []) ⟨hx, hb, hml, hown, hts⟩ hF hbn hM hS hAz htx (i := 12) (by decide) q1112 ⟨by show _ ≤ 6 * d + 20; omega, by show _ ≤ 40 * (6 * d + 20) + 600; omega⟩ hl.1 (Nat.le_of_ble_eq_true rfl) dX8_expr_54 ⟨by show _ ≤ 16 * cst n b (pEx tp n (d + 2) a b cs); omega, by show _ ≤ 64 * cst n b (pEx tp n (d + 2) a b cs); omega⟩ (fun H1 locs hM hk hS => ?_)
          have hsz9 := size_le hk
          have hX := hX.kept (fun x h1 h2 h3 => hk x h3)
          rw [isR_wd (by decide +kernel)]
          generalize hr9 : b2i (wdS tp n 12 b1) = r9
          rcases Bool.eq_false_or_eq_true (wdS tp n 12 b1) with hq0 | hq0
          · rw [hq0] at hr9
            subst hr9
            refine lv_if_eq (tgt := 83) hx hb dX8_expr_57 (by decide) (fun c9 => absurd c9 (by decide : ¬ b2i true = 0)) (fun c9 => ?_)
            exact more 124 10027 ((124, -27)) (by decide +kernel) (by decide +kernel) (by decide +kernel) (by decide +kernel) (by decide +kernel) (by unfold cdW; rw [hq0]; rfl) (wd_lt hq0) _ _ _ hM (by omega) hX hS hl
          · rw [hq0] at hr9
            subst hr9
            refine lv_if_eq (tgt := 83) hx hb dX8_expr_57 (by decide) (fun c9 => ?_) (fun c9 => absurd (rfl : b2i false = 0) c9)
            refine lv_aload_n hx hb dX8_expr_83 rfl (lv_at hl 0 rfl) ?_
            have hR : pEx tp n (d + 2) a b cs = .ok (b1, cs1) := by
              rw [hR9]
              show (match (cdW tp n 12 10027) b1 with | none => _ | some c => _) = _
              rw [show (cdW tp n 12 10027) b1 = none from by unfold cdW; rw [hq0]; rfl]
            have hzt := hS.1
            exact W.widen (k := 16 * cst n b (pEx tp n (d + 2) a b cs)) (n := 64 * cst n b (pEx tp n (d + 2) a b cs)) (by omega) (by omega) (vy_ret (W.aret (v := .ref q1) hx hb hret (Or.inl ⟨_, rfl⟩) (Or.inr ⟨_, rfl⟩) (fun t9 ht hW => ⟨⟨(b1, cs1), q1, rfl, hR, (show RW _ _ _ _ _ _ _ _ _ _ _ t9 t9.heap from ht ▸ hM.moved hW.alike), (show EXq _ _ _ t9.heap.size t9.heap _ _ _ from ht ▸ hX.wide (Nat.le_refl _) (by omega))⟩, hS.F ht⟩) hS.2.2 dX8_expr_84 hlocks))
      refine lv_aload_n hx hb dX8_expr_45 rfl (lv_at hl 0 rfl) ?_
      refine lv_iload_n hx hb dX8_expr_46 rfl (lv_at hl 1 rfl) ?_
      have hS0 := hS
      refine Y_r (rest := []) ⟨hx, hb, hml, hown, hts⟩ hF hbn hM hS hA0 hAz htx het hlocks (hsub g b _ cs hbn h6) (cwV 1 hts (lw_V q1215 q1217 qs28 q131 q1218) rfl rfl rfl (by decide +kernel) ⟨by show (6 * d + 19) + 1 ≤ 6 * d + 20; omega, by show 8 + (3 + 11) + (40 * (6 * d + 19) + 600) ≤ 40 * (6 * d + 20) + 600; omega⟩) (fun e9 he9 => by rw [hF9, he9]; rfl) rfl hl.1 rfl (Nat.le_of_ble_eq_true rfl) dX8_expr_47 ⟨by show _ ≤ 16 * cst n b (pEx tp n (d + 2) a b cs); omega, by show _ ≤ 64 * cst n b (pEx tp n (d + 2) a b cs); omega⟩ (fun _ _ => by omega) (fun _ _ => by omega) (fun x9 qE t H1 locs ht hvm hw hB hsz9 hk hS => ?_)
      subst ht
      obtain ⟨hM, hXqE⟩ := hB
      have hM := hM.moved hvm.symm
      have hmo := hms _ _ _ hbn hw
      have hkE : cst n b (pAnd tp n (pEx tp n (d + 1) (a + 1)) b cs) = x9.1 - b := by rw [hw]; rfl
      have ha6 : ¬ a = 6 := fun h9 => ha69 h9
      refine lv_astore_n (lv' := [(2, .ref qE), (0, .ref rd), (1, .int (nI a))]) hx hb dX8_expr_50 rfl hl (by decide) rfl (fun ls hl => ?_)
      exact loop ha6 (n + 1) x9.1 x9.2 qE _ _ _ _ _ _ (by omega) hmo.2 hmo.1 (by rw [hF9, hw]; rfl) (by omega) (by omega) hM (Nat.le_refl _) (hXqE.wide hS0.1 (Nat.le_refl _)) hS hl
    · have hR : pEx tp n (d + 2) a b cs = .error (1, b) := by rw [hun, if_pos hq]
      have hB : pAnd tp n (pEx tp n (d + 1) (a + 1)) b cs = .error (1, b) := bad_and hq
      have hKv : cst n b (pEx tp n (d + 2) a b cs) = n - b + 1 := by rw [hR]; rfl
      have hKw : cst n b (pAnd tp n (pEx tp n (d + 1) (a + 1)) b cs) = n - b + 1 := by rw [hB]; rfl
      refine lv_aload_n hx hb dX8_expr_45 rfl (lv_at hl 0 rfl) ?_
      refine lv_iload_n hx hb dX8_expr_46 rfl (lv_at hl 1 rfl) ?_
      refine Y_r (rest := []) ⟨hx, hb, hml, hown, hts⟩ hF hbn hM hS hA0 hAz htx het hlocks (hsub g b _ cs hbn h6) (cwV 1 hts (lw_V q1215 q1217 qs28 q131 q1218) rfl rfl rfl (by decide +kernel) ⟨by show (6 * d + 19) + 1 ≤ 6 * d + 20; omega, by show 8 + (3 + 11) + (40 * (6 * d + 19) + 600) ≤ 40 * (6 * d + 20) + 600; omega⟩) (fun e9 he9 => by rw [hR, ← hB, he9]) rfl hl.1 rfl (Nat.le_of_ble_eq_true rfl) dX8_expr_47 ⟨by show _ ≤ 16 * cst n b (pEx tp n (d + 2) a b cs); omega, by show _ ≤ 64 * cst n b (pEx tp n (d + 2) a b cs); omega⟩ (fun _ _ => by omega) (fun _ _ => by omega) (fun x9 qE t H1 locs ht hvm hw hB hsz9 hk hS => ?_)
      subst ht
      obtain ⟨hM, hXqE⟩ := hB
      have hM := hM.moved hvm.symm
      rw [hB] at hw
      cases hw
  refine lv_iload_n hx hb dX8_expr_0 rfl (lv_at hl 1 rfl) ?_
  refine lv_bipush (v := 6) hx hb dX8_expr_1 (by decide) ?_
  refine lv_icmp_lt (tgt := 45) hx hb dX8_expr_3 (by decide) (fun c1 => ?_) (fun c1 => ?_)
  · exact at45 (fun h9 => absurd c1 (by rw [h9]; decide)) _ _ _ hM hS hl
  · have ha6 : a = 6 := by
      rcases Nat.lt_or_ge a 6 with h9 | h9
      · exact absurd (nI_lt (b := 6) h9 (by decide)) c1
      · omega
    have bad : exB tp n b = true → ∀ (H : Heap) (locs : List Loc) (ls : Array Slot), RW D cA z0 E tp n rd ha tx g b s H → va_S (RA rd ha s.heap.size) s.heap H locs → lv_has ls 3 [(0, .ref rd), (1, .int (nI a))] → W p l e (headSpec (ws_ yX8_expr cX8_expr 3 (some (.object "StrangeKnives$Expr"))) ({ frames := 6 * d + 20, cells := 16 * cst n b (pEx tp n (d + 2) a b cs), slots := 64 * cst n b (pEx tp n (d + 2) a b cs), locals := 40 * (6 * d + 20) + 600 })).room s m ([.ref rd, .int (nI a)] : List Value).toArray below meth c H locs 0 0 (vy_MQ below (va_Qr (fun x : Nat × List Nat => pEx tp n (d + 2) a b cs = .ok x) (fun x q t => RW D cA z0 E tp n rd ha tx g x.1 t t.heap ∧ EXq D E s.heap.size t.heap.size t.heap cs x.2 q) (RA rd ha s.heap.size)) (YX D (fun e => pEx tp n (d + 2) a b cs = .error e) (RA rd ha s.heap.size)) ([.ref rd, .int (nI a)] : List Value).toArray s (16 * cst n b (pEx tp n (d + 2) a b cs)) (64 * cst n b (pEx tp n (d + 2) a b cs)) (RA rd ha s.heap.size)) (F0 m 40 ls [.ref rd]) := by
      intro hq H locs ls hM hS hl
      have hR : pEx tp n (d + 2) a b cs = .error (2, b) := by rw [hun, if_neg (by rw [hq]; decide), if_pos ha6]
      have hKv : cst n b (pEx tp n (d + 2) a b cs) = n - b + 1 := by rw [hR]; rfl
      refine lv_iconst (v := 0) hx hb dX8_expr_40 (by decide) ?_
      refine lv_iconst (v := 2) hx hb dX8_expr_41 (by decide) ?_
      exact R_chk0 (rest := []) (k9 := 2) ⟨hx, hb, hml, hown, hts⟩ hlt hF hbn hM hS hA0 hAz htx het hlocks (hR) rfl q1124 ⟨by show _ ≤ 6 * d + 20; omega, by show _ ≤ 40 * (6 * d + 20) + 600; omega⟩ hl.1 (Nat.le_of_ble_eq_true rfl) dX8_expr_42 ⟨by show _ ≤ 16 * cst n b (pEx tp n (d + 2) a b cs); omega, by show _ ≤ 64 * cst n b (pEx tp n (d + 2) a b cs); omega⟩ (by omega) (by omega)
    obtain ⟨v, lg, w, wv, hr, hh, hnum, hW, hwz⟩ := id hM
    refine lv_aload_n hx hb dX8_expr_6 rfl (lv_at hl 0 rfl) ?_
    refine lv_aload_n hx hb dX8_expr_7 rfl (lv_at hl 0 rfl) ?_
    refine h_get (C := RX8) (T := TX8) (N := 9) (ci := 6) (v := .ref (E 3 (so (ty tp n b)))) hx hb hts in_X8 hown hK hr rfl 6 (by decide) (hts _ q1083) (fun _ h9 => h9) rfl dX8_expr_8 ?_
    refine va_gets (n := "NUMBER") (v := .ref (E 3 1)) hx hb (((hZ.1.2.2.2.1.1 1 (by decide)).1).narrow hAZ) hS hown (hts _ q1054) (fun _ h => h) dX8_expr_11 ?_
    refine lv_acmp_eq (rx := some (E 3 (so (ty tp n b)))) (ry := some (E 3 1)) (tgt := 40) hx hb dX8_expr_14 (by decide) (fun c2 => bad (by unfold exB; rw [decide_eq_true (Or.inl (Classical.byContradiction (fun h9 => E3_nty hZ hty (by decide : 1 < 5) h9 c2)))]; rfl) _ _ _ hM hS hl) (fun c2 => ?_)
    refine lv_aload_n hx hb dX8_expr_17 rfl (lv_at hl 0 rfl) ?_
    refine h_get (C := RX8) (T := TX8) (N := 9) (ci := 6) (v := .ref (E 3 (so (ty tp n b)))) hx hb hts in_X8 hown hK hr rfl 6 (by decide) (hts _ q1083) (fun _ h9 => h9) rfl dX8_expr_18 ?_
    refine va_gets (n := "WORD") (v := .ref (E 3 0)) hx hb (((hZ.1.2.2.2.1.1 0 (by decide)).1).narrow hAZ) hS hown (hts _ q1049) (fun _ h => h) dX8_expr_21 ?_
    refine lv_acmp_eq (rx := some (E 3 (so (ty tp n b)))) (ry := some (E 3 0)) (tgt := 40) hx hb dX8_expr_24 (by decide) (fun c3 => bad (by unfold exB; rw [decide_eq_true (Or.inr (Classical.byContradiction (fun h9 => E3_nty hZ hty (by decide : 0 < 5) h9 c3)))]; rfl) _ _ _ hM hS hl) (fun c3 => ?_)
    refine lv_aload_n hx hb dX8_expr_27 rfl (lv_at hl 0 rfl) ?_
    refine va_ldcS hx hb hown (hZ.2.2.1 _ (List.mem_of_getElem? (i := 11) rfl)) dX8_expr_28 ?_
    refine R_is (rest := [.ref rd]) ⟨hx, hb, hml, hown, hts⟩ hF hbn hM hS hAz htx (i := 11) (by decide) q1112 ⟨by show _ ≤ 6 * d + 20; omega, by show _ ≤ 40 * (6 * d + 20) + 600; omega⟩ hl.1 (Nat.le_of_ble_eq_true rfl) dX8_expr_30 ⟨by show _ ≤ 16 * cst n b (pEx tp n (d + 2) a b cs); omega, by show _ ≤ 64 * cst n b (pEx tp n (d + 2) a b cs); omega⟩ (fun H1 locs hM hk hS => ?_)
    have hsz9 := size_le hk
    have hr := hr.kept (hk _ hr.lt)
    rw [isR_sg (ch := 40) (by rfl) (by decide)]
    generalize hr9 : b2i (sgS tp n 40 b) = r9
    rcases Bool.eq_false_or_eq_true (sgS tp n 40 b) with hq | hq
    · rw [hq] at hr9
      subst hr9
      refine lv_if_ne (tgt := 40) hx hb dX8_expr_33 (by decide) (fun c4 => bad (by unfold exB; rw [hq, Bool.or_true]) _ _ _ hM hS hl) (fun c4 => absurd c4 (by decide : ¬ b2i true = 0))
    · rw [hq] at hr9
      subst hr9
      refine lv_if_ne (tgt := 40) hx hb dX8_expr_33 (by decide) (fun c9 => absurd (rfl : b2i false = 0) c9) (fun c9 => ?_)
      refine lv_iconst (v := 1) hx hb dX8_expr_36 (by decide) ?_
      refine lv_goto (tgt := 41) hx hb dX8_expr_37 (by decide) ?_
      refine lv_iconst (v := 2) hx hb dX8_expr_41 (by decide) ?_
      refine R_chk1 (rest := []) ⟨hx, hb, hml, hown, hts⟩ hF hbn hM hS hAz htx q1124 ⟨by show _ ≤ 6 * d + 20; omega, by show _ ≤ 40 * (6 * d + 20) + 600; omega⟩ hl.1 (Nat.le_of_ble_eq_true rfl) dX8_expr_42 ⟨by show _ ≤ 16 * cst n b (pEx tp n (d + 2) a b cs); omega, by show _ ≤ 64 * cst n b (pEx tp n (d + 2) a b cs); omega⟩ (fun H1 locs hM hk hS => ?_)
      have hsz9 := size_le hk
      have hr := hr.kept (hk _ hr.lt)
      exact at45 (fun _ => by unfold exB; rw [hq, Bool.or_false, decide_eq_false (fun h9 => h9.elim (fun h8 => c2 (E3_ty hZ hty (by decide : 1 < 5) h8)) (fun h8 => c3 (E3_ty hZ hty (by decide : 0 < 5) h8)))]) _ _ _ hM hS hl
theorem metX8_expr (l : Launch) (hlt : l.stackTraces = false) {D : va_G} {cA : Nat → ClassId} {z0 : Nat} {E : Nat → Nat → Nat} {tp : Nat → Nat} {n : Nat} {f : Nat → Int32} {rd ha tx : Nat} : ∀ (d a : Nat), a + d = 7 → 1 ≤ d → EXC l D cA z0 E tp n f rd ha tx yX8_expr (ws_ yX8_expr cX8_expr 3 (some (.object "StrangeKnives$Expr"))) (6 * d + 20) a (pEx tp n (d + 2) a) (fun _ => True) := by
  intro d
  induction d with
  | zero => intro a _ h; omega
  | succ d ih =>
    intro a hd h1
    have hm : Mo n (pEx tp n (d + 2) (a + 1)) := Mo.ex _ _
    have h2 := metX8_part l hlt (D := D) (cA := cA) (z0 := z0) (E := E) (f := f) (rd := rd) (ha := ha) (tx := tx) hd h1 hm (fun h => ih (a + 1) (by omega) (by omega))
    have h3 := metX8_product l hlt hd h1 hm h2
    have h4 := metX8_sum l hlt hd h1 hm h3
    have h5 := metX8_not l hlt hd h1 hm h4
    have h6 := metX8_and l hlt hd h1 hm h5
    exact metX8_expr1 l hlt hd h1 hm h6
