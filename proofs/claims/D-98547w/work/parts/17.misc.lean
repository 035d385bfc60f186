/-! 17.misc: Integer.bitCount; the two states of the component -/
def ush (x s : Int32) : Int32 := (x.toUInt32 >>> (s.toUInt32 &&& Int32.toUInt32 31)).toInt32
def bc1 (x : Int32) : Int32 := x - (ush x 1 &&& 1431655765)
def bc2 (x : Int32) : Int32 := (x &&& 858993459) + (ush x 2 &&& 858993459)
def bc3 (x : Int32) : Int32 := (x + ush x 4) &&& 252645135
def bc4 (x : Int32) : Int32 := x + ush x 8
def bc5 (x : Int32) : Int32 := x + ush x 16
def bitc (x : Int32) : Int32 := bc5 (bc4 (bc3 (bc2 (bc1 x)))) &&& 63
theorem XW.st2 {D : va_G} {cA : Nat → ClassId} {ad : Nat → Nat} {ta : Nat} {u : Mem} {H : Heap} {k : Nat} (hk : k = 40 ∨ k = 50) (h : XW D cA ad ta u H) : SW D cA (shf ad k) (sub u k) H := by
  rcases hk with rfl | rfl
  · exact h.now
  · exact h.tried
set_option maxHeartbeats 4000000 in
set_option maxRecDepth 100000 in
theorem metJ16_bitCount (l : Launch) {x : Int32} : ReI l yJ16_bitCount (ws_ yJ16_bitCount cJ16_bitCount 1 (some .int)) ({ frames := 1, cells := 0, slots := 0, locals := 30 }) [.int x] (fun _ => True) (fun r => r = bitc x) := by
  refine Met.ofW (cc := cJ16_bitCount) (maxL := 1) (ret := (some .int)) (by decide) rfl ?_
  intro p e s m args below meth c s₁ B hml hv
  obtain ⟨rfl, hv⟩ := hv
  have hx := B.exec
  have hb := B.bytes
  have hr := B.returns
  have hts := atoms_spec (ws := ws_ yJ16_bitCount cJ16_bitCount 1 (some .int)) B.pre
  have hts : ∀ w ∈ lw_all, w.before _ s = true := fun w h => hts w (List.mem_cons_of_mem _ h)
  have hown : s.vm.findClass RJ16 = some m.cls := findClass_of_methodNamed B.named
  have hlocks := B.notSynchronized
  have hS : va_S (NoA) s.heap s.heap [] := va_S.rf
  have hl := lv_entry ([.int x]) (n := 1) (Nat.le_of_ble_eq_true rfl)
  rw [lg_entry_eq]
  generalize (lg_sl ([.int x]) ++ List.replicate (1 - (lg_sl ([.int x])).length) Slot.unset).toArray = ls at hl ⊢
  have hl : lv_has ls 1 [(0, .int x)] := hl
  refine lv_iload_n hx hb dJ16_bitCount_0 rfl (lv_at hl 0 rfl) ?_
  refine lv_iload_n hx hb dJ16_bitCount_1 rfl (lv_at hl 0 rfl) ?_
  refine lv_iconst (v := 1) hx hb dJ16_bitCount_2 (by decide) ?_
  refine lv_iushr (v := ush _ _) hx hb dJ16_bitCount_3 rfl ?_
  refine lv_ldcw hx hb hown (hts _ q800) dJ16_bitCount_4 ?_
  refine lv_iand hx hb dJ16_bitCount_7 ?_
  refine lv_isub hx hb dJ16_bitCount_8 ?_
  refine lv_istore_n (x := bc1 x) (lv' := [(0, .int (bc1 x))]) hx hb dJ16_bitCount_9 rfl hl (by decide) rfl (fun ls hl => ?_)
  refine lv_iload_n hx hb dJ16_bitCount_10 rfl (lv_at hl 0 rfl) ?_
  refine lv_ldcw hx hb hown (hts _ q801) dJ16_bitCount_11 ?_
  refine lv_iand hx hb dJ16_bitCount_14 ?_
  refine lv_iload_n hx hb dJ16_bitCount_15 rfl (lv_at hl 0 rfl) ?_
  refine lv_iconst (v := 2) hx hb dJ16_bitCount_16 (by decide) ?_
  refine lv_iushr (v := ush _ _) hx hb dJ16_bitCount_17 rfl ?_
  refine lv_ldcw hx hb hown (hts _ q801) dJ16_bitCount_18 ?_
  refine lv_iand hx hb dJ16_bitCount_21 ?_
  refine lv_iadd hx hb dJ16_bitCount_22 ?_
  refine lv_istore_n (x := bc2 (bc1 x)) (lv' := [(0, .int (bc2 (bc1 x)))]) hx hb dJ16_bitCount_23 rfl hl (by decide) rfl (fun ls hl => ?_)
  refine lv_iload_n hx hb dJ16_bitCount_24 rfl (lv_at hl 0 rfl) ?_
  refine lv_iload_n hx hb dJ16_bitCount_25 rfl (lv_at hl 0 rfl) ?_
  refine lv_iconst (v := 4) hx hb dJ16_bitCount_26 (by decide) ?_
  refine lv_iushr (v := ush _ _) hx hb dJ16_bitCount_27 rfl ?_
  refine lv_iadd hx hb dJ16_bitCount_28 ?_
  refine lv_ldcw hx hb hown (hts _ q802) dJ16_bitCount_29 ?_
  refine lv_iand hx hb dJ16_bitCount_32 ?_
  refine lv_istore_n (x := bc3 (bc2 (bc1 x))) (lv' := [(0, .int (bc3 (bc2 (bc1 x))))]) hx hb dJ16_bitCount_33 rfl hl (by decide) rfl (fun ls hl => ?_)
  refine lv_iload_n hx hb dJ16_bitCount_34 rfl (lv_at hl 0 rfl) ?_
  refine lv_iload_n hx hb dJ16_bitCount_35 rfl (lv_at hl 0 rfl) ?_
  refine lv_bipush (v := 8) hx hb dJ16_bitCount_36 (by decide) ?_
  refine lv_iushr (v := ush _ _) hx hb dJ16_bitCount_38 rfl ?_
  refine lv_iadd hx hb dJ16_bitCount_39 ?_
  refine lv_istore_n (x := bc4 (bc3 (bc2 (bc1 x)))) (lv' := [(0, .int (bc4 (bc3 (bc2 (bc1 x)))))]) hx hb dJ16_bitCount_40 rfl hl (by decide) rfl (fun ls hl => ?_)
  refine lv_iload_n hx hb dJ16_bitCount_41 rfl (lv_at hl 0 rfl) ?_
  refine lv_iload_n hx hb dJ16_bitCount_42 rfl (lv_at hl 0 rfl) ?_
  refine lv_bipush (v := 16) hx hb dJ16_bitCount_43 (by decide) ?_
  refine lv_iushr (v := ush _ _) hx hb dJ16_bitCount_45 rfl ?_
  refine lv_iadd hx hb dJ16_bitCount_46 ?_
  refine lv_istore_n (x := bc5 (bc4 (bc3 (bc2 (bc1 x))))) (lv' := [(0, .int (bc5 (bc4 (bc3 (bc2 (bc1 x))))))]) hx hb dJ16_bitCount_47 rfl hl (by decide) rfl (fun ls hl => ?_)
  refine lv_iload_n hx hb dJ16_bitCount_48 rfl (lv_at hl 0 rfl) ?_
  refine lv_bipush (v := 63) hx hb dJ16_bitCount_49 (by decide) ?_
  refine lv_iand hx hb dJ16_bitCount_51 ?_
  exact W.iret (v := bitc x) hx hb hr (fun t ht _ => ⟨⟨_, (), rfl, rfl, trivial⟩, hS.F ht⟩) hS.2.2 dJ16_bitCount_52 hlocks
