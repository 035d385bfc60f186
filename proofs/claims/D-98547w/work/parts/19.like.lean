/-! 19.like: State.like: one state's cells take another's numbers -/
def likeM (S S2 : Mem) : Mem := fun k => if k = 0 then va_cpy (S2 0) (S 0) 0 0 64 else if k = 1 then va_cpy (S2 1) (S 1) 0 0 6 else if k = 2 then va_cpy (S2 2) (S 2) 0 0 8 else if k = 3 then upd (S 3) 0 (S2 3 0) else if k = 4 then upd (S 4) 0 (S2 4 0) else S k
def cpM (u : Mem) (d k n : Nat) : Mem := fun j => if j = d then va_cpy (u k) (u d) 0 0 n else u j
/-- one array of a state copied over another's -/
theorem SW.cp {z0 : Nat} {D : va_G} {cA : Nat → ClassId} {sa : Nat → Nat} {h : Mem} {H H1 : Heap} {k : Nat} {f : Nat → Int32} (hM : SW D cA sa h H) (hJ : SJ z0 sa) (hk : Sarr k = true) (hc : va_at D vwCl (sa k, .inl (cA 0, Slen k, .inl f)) H1) (oq : ∀ q, q ≠ sa k → H1[q]? = H[q]?) : SW D cA sa (fun j => if j = k then f else h j) H1 := by
  refine ⟨?_, fun j hj => ?_⟩
  · have e9 : Sfs5 sa (fun j => if j = k then f else h j) = Sfs5 sa h := by
      unfold Sfs5
      simp only [if_neg (Sarr_3 hk).symm, if_neg (Sarr_4 hk).symm]
    rw [e9]
    exact hM.1.kept (oq _ fun q => Sarr_5 hk (hJ.1 k 5 (Or.inl hk) (Or.inr rfl) q.symm))
  · by_cases e : j = k
    · subst e
      show va_at D vwCl (sa j, .inl (cA 0, Slen j, .inl (if j = j then f else h j))) H1
      rw [if_pos rfl]
      exact hc
    · show va_at D vwCl (sa j, .inl (cA 0, Slen j, .inl (if j = k then f else h j))) H1
      rw [if_neg e]
      exact (hM.2 j hj).kept (oq _ fun q => e (hJ.1 j k (Or.inl hj) (Or.inl hk) q))
/-- two states apart -/
def SD (sa sb : Nat → Nat) : Prop := ∀ i j, Spl i → Spl j → sa i ≠ sb j
theorem SW.off {D : va_G} {cA : Nat → ClassId} {sa sb : Nat → Nat} {h : Mem} {H H1 : Heap} {a : Nat} (hM : SW D cA sb h H) (hd : SD sa sb) (i : Nat) (hi : Spl i) (ha : a = sa i) (oq : ∀ q, q ≠ a → H1[q]? = H[q]?) : SW D cA sb h H1 :=
  ⟨hM.1.kept (oq _ fun q => hd i 5 hi (Or.inr rfl) (by rw [← ha]; exact q.symm)), fun k hk => (hM.2 k hk).kept (oq _ fun q => hd i k hi (Or.inl hk) (by rw [← ha]; exact q.symm))⟩
def PhL (D : va_G) (cA : Nat → ClassId) (z0 : Nat) (E : Nat → Nat → Nat) (sa sb : Nat → Nat) (S S2 : Mem) (U : State) : Prop := SW D cA sa S U.heap ∧ SW D cA sb S2 U.heap ∧ SJ z0 sa ∧ SD sa sb ∧ KK D cA U
theorem PhL.blind {D : va_G} {cA : Nat → ClassId} {z0 : Nat} {E : Nat → Nat → Nat} {sa sb : Nat → Nat} {S S2 : Mem} : Blind (PhL D cA z0 E sa sb S S2) := fun U g mk a h => ⟨h.1, h.2.1, h.2.2.1, h.2.2.2.1, va_K.moved (u := U) (U := U.calling g mk a) (Vm.Alike.refl U.vm) h.2.2.2.2⟩
theorem fits_int (x : Int32) : fits .int (.int x) = true := rfl
set_option maxHeartbeats 4000000 in
set_option maxRecDepth 100000 in
theorem metX6_like (l : Launch) {D : va_G} {cA : Nat → ClassId} {z0 : Nat} {E : Nat → Nat → Nat} {sa sb : Nat → Nat} {S S2 : Mem} : Met l yX6_like (ws_ yX6_like cX6_like 2 none) ({ frames := 2, cells := 0, slots := 0, locals := 60 }) (va_Pc [.ref (sa 5), .ref (sb 5)] (PhL D cA z0 E sa sb S S2)) (va_Qv (fun h' => h' = likeM S S2) (fun h' t => SW D cA sa h' t.heap) (SA sa)) 0 0 (SA sa) := by
  refine Met.ofW (cc := cX6_like) (maxL := 2) (ret := none) (by decide) rfl ?_
  intro p e s m args below meth c s₁ B hml hv
  obtain ⟨rfl, hv⟩ := hv
  have hx := B.exec
  have hb := B.bytes
  have hr := B.returns
  have hts := atoms_spec (ws := ws_ yX6_like cX6_like 2 none) B.pre
  have hts : ∀ w ∈ lw_all, w.before _ s = true := fun w h => hts w (List.mem_cons_of_mem _ h)
  have hown : s.vm.findClass RX6 = some m.cls := findClass_of_methodNamed B.named
  have hlocks := B.notSynchronized
  have hS : va_S (SA sa) s.heap s.heap [] := va_S.rf
  have hl := lv_entry ([.ref (sa 5), .ref (sb 5)]) (n := 2) (Nat.le_of_ble_eq_true rfl)
  rw [lg_entry_eq]
  generalize (lg_sl ([.ref (sa 5), .ref (sb 5)]) ++ List.replicate (2 - (lg_sl ([.ref (sa 5), .ref (sb 5)])).length) Slot.unset).toArray = ls at hl ⊢
  have hl : lv_has ls 2 [(0, .ref (sa 5)), (1, .ref (sb 5))] := hl
  obtain ⟨hM, hB2, hJ, hd, hK⟩ := hv
  refine lv_aload_n hx hb dX6_like_0 rfl (lv_at hl 1 rfl) ?_
  refine S_get5 (sa := sb) hx hb hts hown hK hB2 0 (v := .ref (sb 0)) (by decide) (hts _ q580) rfl dX6_like_1 ?_
  refine lv_iconst (v := 0) hx hb dX6_like_4 (by decide) ?_
  refine lv_aload_n hx hb dX6_like_5 rfl (lv_at hl 0 rfl) ?_
  refine S_get5 (sa := sa) hx hb hts hown hK hM 0 (v := .ref (sa 0)) (by decide) (hts _ q580) rfl dX6_like_6 ?_
  refine lv_iconst (v := 0) hx hb dX6_like_9 (by decide) ?_
  refine lv_aload_n hx hb dX6_like_10 rfl (lv_at hl 0 rfl) ?_
  refine S_get5 (sa := sa) hx hb hts hown hK hM 0 (v := .ref (sa 0)) (by decide) (hts _ q580) rfl dX6_like_11 ?_
  refine S_alen hx hb hK hM 0 rfl dX6_like_14 ?_
  refine h_copyi (n := nI 64) (f := S2 0) hx hb (hml.trans hl.1.symm) hown (hts _ q838) (hts _ q295) (hts _ q294) (hts _ q120) hK (hB2.2 0 rfl) (hM.2 0 rfl) ⟨0, Or.inl rfl, rfl⟩ hS 0 0 rfl rfl rfl (by decide) (by decide) (by decide) (by decide) (by decide) (fun _ _ => rfl) (Nat.le_of_ble_eq_true rfl) (Nat.le_of_ble_eq_true rfl) dX6_like_15 (fun H locs hc oq _ hS => ?_)
  have hM := hM.cp hJ rfl hc oq
  have hB2 := hB2.off hd 0 (Or.inl rfl) rfl oq
  refine lv_aload_n hx hb dX6_like_18 rfl (lv_at hl 1 rfl) ?_
  refine S_get5 (sa := sb) hx hb hts hown hK hB2 1 (v := .ref (sb 1)) (by decide) (hts _ q582) rfl dX6_like_19 ?_
  refine lv_iconst (v := 0) hx hb dX6_like_22 (by decide) ?_
  refine lv_aload_n hx hb dX6_like_23 rfl (lv_at hl 0 rfl) ?_
  refine S_get5 (sa := sa) hx hb hts hown hK hM 1 (v := .ref (sa 1)) (by decide) (hts _ q582) rfl dX6_like_24 ?_
  refine lv_iconst (v := 0) hx hb dX6_like_27 (by decide) ?_
  refine lv_bipush (v := 6) hx hb dX6_like_28 (by decide) ?_
  refine h_copyi (n := nI 6) (f := S2 1) hx hb (hml.trans hl.1.symm) hown (hts _ q838) (hts _ q295) (hts _ q294) (hts _ q120) hK (hB2.2 1 rfl) (hM.2 1 rfl) ⟨1, Or.inl rfl, rfl⟩ hS 0 0 rfl rfl rfl (by decide) (by decide) (by decide) (by decide) (by decide) (fun _ _ => rfl) (Nat.le_of_ble_eq_true rfl) (Nat.le_of_ble_eq_true rfl) dX6_like_30 (fun H locs hc oq _ hS => ?_)
  have hM := hM.cp hJ rfl hc oq
  have hB2 := hB2.off hd 1 (Or.inl rfl) rfl oq
  refine lv_aload_n hx hb dX6_like_33 rfl (lv_at hl 1 rfl) ?_
  refine S_get5 (sa := sb) hx hb hts hown hK hB2 2 (v := .ref (sb 2)) (by decide) (hts _ q584) rfl dX6_like_34 ?_
  refine lv_iconst (v := 0) hx hb dX6_like_37 (by decide) ?_
  refine lv_aload_n hx hb dX6_like_38 rfl (lv_at hl 0 rfl) ?_
  refine S_get5 (sa := sa) hx hb hts hown hK hM 2 (v := .ref (sa 2)) (by decide) (hts _ q584) rfl dX6_like_39 ?_
  refine lv_iconst (v := 0) hx hb dX6_like_42 (by decide) ?_
  refine lv_bipush (v := 8) hx hb dX6_like_43 (by decide) ?_
  refine h_copyi (n := nI 8) (f := S2 2) hx hb (hml.trans hl.1.symm) hown (hts _ q838) (hts _ q295) (hts _ q294) (hts _ q120) hK (hB2.2 2 rfl) (hM.2 2 rfl) ⟨2, Or.inl rfl, rfl⟩ hS 0 0 rfl rfl rfl (by decide) (by decide) (by decide) (by decide) (by decide) (fun _ _ => rfl) (Nat.le_of_ble_eq_true rfl) (Nat.le_of_ble_eq_true rfl) dX6_like_45 (fun H locs hc oq _ hS => ?_)
  have hM := hM.cp hJ rfl hc oq
  have hB2 := hB2.off hd 2 (Or.inl rfl) rfl oq
  refine lv_aload_n hx hb dX6_like_48 rfl (lv_at hl 0 rfl) ?_
  refine lv_aload_n hx hb dX6_like_49 rfl (lv_at hl 1 rfl) ?_
  refine S_get5 (sa := sb) hx hb hts hown hK hB2 3 (v := .int (S2 3 0)) (by decide) (hts _ q586) rfl dX6_like_50 ?_
  refine h_put (C := RX6) (T := TX6) (N := 5) (ci := 5) hx hb hts in_X6 tyX6 tyX6_ok nmX6 hown hK hM.1 ⟨5, Or.inr rfl, rfl⟩ hS rfl 3 (by decide) (hts _ q586) (fun _ h9 => h9) rfl (ty := .int) (by decide +kernel) rfl rfl (Nat.lt_of_lt_of_le (by decide : 3 < 5) (Nat.le_of_eq rfl)) dX6_like_53 (fun H locs hc oq _ hS => ?_)
  have hM := hM.pt3 hJ hc oq
  have hB2 := hB2.off hd 5 (Or.inr rfl) rfl oq
  refine lv_aload_n hx hb dX6_like_56 rfl (lv_at hl 0 rfl) ?_
  refine lv_aload_n hx hb dX6_like_57 rfl (lv_at hl 1 rfl) ?_
  refine S_get5 (sa := sb) hx hb hts hown hK hB2 4 (v := .int (S2 4 0)) (by decide) (hts _ q588) rfl dX6_like_58 ?_
  refine h_put (C := RX6) (T := TX6) (N := 5) (ci := 5) hx hb hts in_X6 tyX6 tyX6_ok nmX6 hown hK hM.1 ⟨5, Or.inr rfl, rfl⟩ hS rfl 4 (by decide) (hts _ q588) (fun _ h9 => h9) rfl (ty := .int) (by decide +kernel) rfl rfl (Nat.lt_of_lt_of_le (by decide : 4 < 5) (Nat.le_of_eq rfl)) dX6_like_61 (fun H locs hc oq _ hS => ?_)
  have hM := hM.pt4 hJ hc oq
  have hB2 := hB2.off hd 5 (Or.inr rfl) rfl oq
  exact S_vret hx hb hr hlocks hM hS (by
    funext j
    match j with
    | 0 => rfl
    | 1 => rfl
    | 2 => rfl
    | 3 => rfl
    | 4 => rfl
    | j + 5 => simp only [likeM, up2, if_neg (show ¬ j + 5 = 0 by omega), if_neg (show ¬ j + 5 = 1 by omega), if_neg (show ¬ j + 5 = 2 by omega), if_neg (show ¬ j + 5 = 3 by omega), if_neg (show ¬ j + 5 = 4 by omega)]) dX6_like_64
