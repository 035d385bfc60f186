/-! 19.rows: rows of the component's writers: copies, State.like; what a slice weighs by the rule -/
def setp (h : Mem) (k : Nat) (f : Nat → Int32) : Mem := fun j => if j = k then f else h j
theorem setp_same (h : Mem) (k : Nat) (f : Nat → Int32) : setp h k f k = f := by unfold setp; rw [if_pos rfl]
theorem setp_other {h : Mem} {k j : Nat} {f : Nat → Int32} (q : j ≠ k) : setp h k f j = h j := by unfold setp; rw [if_neg q]
theorem cpM_eq (u : Mem) (d k n : Nat) : cpM u d k n = setp u d (va_cpy (u k) (u d) 0 0 n) := rfl
/-- one array's contents changed -/
theorem XW.spv {z0 : Nat} {D : va_G} {cA : Nat → ClassId} {ad : Nat → Nat} {ta : Nat} {h : Mem} {H H1 : Heap} {k : Nat} {f : Nat → Int32} (hM : XW D cA ad ta h H) (hJ : XJ z0 ad) (hk : Xarr k = true) (hc : va_at D vwCl (ad k, .inl (cA 0, Xlen k, .inl f)) H1) (oq : ∀ q, q < H.size → ¬ q = ad k → H1[q]? = H[q]?) : XW D cA ad ta (setp h k f) H1 := by
  have hkp : ∀ (j : Nat) (e : va_E), Xpl j → j ≠ k → va_at D vwCl (ad j, e) H → va_at D vwCl (ad j, e) H1 := fun j e hj hn ha => ha.kept (oq _ ha.lt fun q => hn (hJ.1 j k hj (Or.inl hk) q))
  obtain ⟨h1, h2, h3, h4, h5, h6⟩ := hM
  refine ⟨?_, ?_, ?_, ?_, ?_, fun j hj => ?_⟩
  · have e9 : Xfs17 ad ta (setp h k f) = Xfs17 ad ta h := by
      unfold Xfs17
      simp only [setp_other (Xarr_5 hk).symm, setp_other (Xarr_7 hk).symm, setp_other (Xarr_8 hk).symm, setp_other (Xarr_13 hk).symm, setp_other (Xarr_14 hk).symm, setp_other (Xarr_16 hk).symm]
    rw [e9]
    exact hkp 17 _ (Or.inr (Or.inl rfl)) (Xarr_17 hk).symm h1
  · have e9 : Xfs31 ad ta (setp h k f) = Xfs31 ad ta h := by
      unfold Xfs31
      simp only [setp_other (Xarr_28 hk).symm, setp_other (Xarr_29 hk).symm, setp_other (Xarr_30 hk).symm]
    rw [e9]
    exact hkp 31 _ (Or.inr (Or.inr (Or.inl rfl))) (Xarr_31 hk).symm h2
  · have e9 : Xfs45 ad ta (setp h k f) = Xfs45 ad ta h := by
      unfold Xfs45
      simp only [setp_other (Xarr_43 hk).symm, setp_other (Xarr_44 hk).symm]
    rw [e9]
    exact hkp 45 _ (Or.inr (Or.inr (Or.inr (Or.inl rfl)))) (Xarr_45 hk).symm h3
  · have e9 : Xfs55 ad ta (setp h k f) = Xfs55 ad ta h := by
      unfold Xfs55
      simp only [setp_other (Xarr_53 hk).symm, setp_other (Xarr_54 hk).symm]
    rw [e9]
    exact hkp 55 _ (Or.inr (Or.inr (Or.inr (Or.inr (Or.inl rfl))))) (Xarr_55 hk).symm h4
  · rw [setp_other (Xarr_6 hk).symm]
    exact hkp 6 _ (Or.inr (Or.inr (Or.inr (Or.inr (Or.inr rfl))))) (Xarr_6 hk).symm h5
  · by_cases e : j = k
    · subst e
      rw [setp_same]
      exact hc
    · rw [setp_other e]
      exact hkp j _ (Or.inl hj) e (h6 j hj)
theorem XW.sp {z0 : Nat} {D : va_G} {cA : Nat → ClassId} {ad : Nat → Nat} {ta : Nat} {h : Mem} {H H1 : Heap} {k : Nat} {f : Nat → Int32} (hM : XW D cA ad ta h H) (hJ : XJ z0 ad) (hk : Xarr k = true) (hc : va_at D vwCl (ad k, .inl (cA 0, Xlen k, .inl f)) H1) (oq : ∀ q, q ≠ ad k → H1[q]? = H[q]?) : XW D cA ad ta (setp h k f) H1 := hM.spv hJ hk hc (fun q _ h => oq q h)
def reck (sg a b : Int32) : Int32 := if sg = -20 then a + b else if sg = -21 then a - b else if sg = -22 then a * b else if sg = -23 then (if b = 0 then 0 else a / b) else if sg = -24 then (if a < b then 1 else 0) else if sg = -25 then (if a = b then 1 else 0) else if sg = -26 then (if a ≠ 0 ∧ b ≠ 0 then 1 else 0) else (if a ≠ 0 ∨ b ≠ 0 then 1 else 0)
/-- one sign worked on the stack -/
def stp (env : Nat → Int32) (st : List Int32) (sg : Int32) : List Int32 :=
  if -20 < sg then (if 0 ≤ sg then sg else env (ix (-1 - sg))) :: st
  else if sg = -28 then (match st with | a :: r => (if a = 0 then 1 else 0) :: r | [] => [])
  else (match st with | b :: a :: r => reck sg a b :: r | _ => [])
def evalc (cd : List Int32) (env : Nat → Int32) : Int32 := (cd.foldl (stp env) []).headD 0
def wenv (T : TT) (p b : Nat) (th i n : Int32) : Nat → Int32 := fun k => match k with
  | 0 => ksl (T 1 p) i n
  | 1 => n
  | 2 => nI (T 5 b)
  | 3 => nI (T 1 p)
  | 4 => nI (T 3 p)
  | _ => th
def wgt (T : TT) (p b : Nat) (th i n : Int32) : Int32 := if T 0 5 = 0 ∨ T 1 p = 2 then 1 else mxI 1 (mnI 99 (evalc (sgns T) (wenv T p b th i n)))
section XR2
variable {p : Program} {l : Launch} {e : Env} {R : Room} {s : State} {m : MethodId} {args : Array Value} {below : List Frame} {meth : Method} {c : Code} {H : Heap} {locs : List Loc} {cells slots : Nat} {Q : State → Prop}
variable {cc : ByteArray} {pc nL : Nat} {ls : Array Slot} {rest st0 : List Value} {A : Nat → Prop} {H0 : Heap} {D : va_G} {cA : Nat → ClassId} {E : Nat → Nat → Nat} {T : TT} {tw : Nat → Nat} {vo z0 : Nat} {N : Nat → Prop} {own : String} {index : Nat} {sa ad : Nat → Nat} {h : Mem}
theorem X_copy (hx : p.tables.exec = Jvm.exec) (hb : c.code = cc) (hml : c.maxLocals = ls.size) (hown : s.vm.findClass own = some m.cls) (hlink : (Cond.methodLink own index arraycopyName).before args s = true) (hnat : (Cond.native arraycopyName).before args s = true) (hstat : (Cond.static arraycopyName).before args s = true) (hini : (Cond.initialized "java/lang/System").before args s = true)
    (hK : KK D cA s) (hM : XW D cA ad (tw 9) h H) (hJ : XJ z0 ad) (hA : ∀ q, XA ad q → A q) (hS : va_S A H0 H locs) (d k : Nat) (hd : Xarr d = true) (hk : Xarr k = true) {n : Int32} {j : Nat} (hj : ix n = j) (h3 : ¬ n < 0) (h4 : j ≤ Xlen k) (h5 : j ≤ Xlen d)
    (hframes : 1 ≤ R.frames) (hlocals : (rest.map fun v => v.category).sum + (nativeFrameWords "java/lang/System" "arraycopy" 5 + 11) ≤ R.locals) (hdg : decode cc pc = .ok (.invokestatic index, 3))
    (kk : ∀ (H1 : Heap) (locs1 : List Loc), XW D cA ad (tw 9) (cpM h d k j) H1 → va_S A H0 H1 locs1 → W p l e R s m args below meth c H1 locs1 cells slots Q (F0 m (pc + 3) ls rest)) : W p l e R s m args below meth c H locs cells slots Q (F0 m pc ls (.int n :: .int 0 :: .ref (ad d) :: .int 0 :: .ref (ad k) :: rest)) := by
  subst hj
  have e0 : ix 0 = 0 := by decide
  refine h_copyi hx hb hml hown hlink hnat hstat hini hK (hM.2.2.2.2.2 k hk) (hM.2.2.2.2.2 d hd) (hA _ ⟨d, Or.inl hd, rfl⟩) hS 0 0 rfl rfl rfl (by decide) (by decide) h3 (by rw [e0]; omega) (by rw [e0]; omega) (fun _ _ => rfl) hframes hlocals hdg (fun H1 locs1 hc oq _ hS1 => kk H1 locs1 ?_ hS1)
  rw [e0] at hc
  exact hM.sp hJ hd hc oq
theorem SD.st {z0 : Nat} {ad : Nat → Nat} (h : XJ z0 ad) {k k2 : Nat} (hk : k = 40 ∨ k = 50) (hk2 : k2 = 40 ∨ k2 = 50) (hn : k ≠ k2) : SD (shf ad k) (shf ad k2) := fun i j hi hj e => by
  have := h.1 (k + i) (k2 + j) (xpl_st hk hi) (xpl_st hk2 hj) e
  rcases spl_cases hi with rfl | rfl | rfl | rfl <;> rcases spl_cases hj with rfl | rfl | rfl | rfl <;> omega
theorem XL_like (S : CallFix p m c cc nL s args lw_all own) (hK : KK D cA s) (hM : XW D cA ad (tw 9) h H) (hJ : XJ z0 ad) (hS : va_S A s.heap H locs) (hA : ∀ q, XA ad q → A q) (k k2 : Nat) (hk : k = 40 ∨ k = 50) (hk2 : k2 = 40 ∨ k2 = 50) (hn : k ≠ k2) (cw : CallW R s args own RX6 index yX6_like cX6_like 2 none (ws_ yX6_like cX6_like 2 none) ({ frames := 2, cells := 0, slots := 0, locals := 60 }) 0 0 1) (hsize : ls.size = nL) (hW : (rest.map fun v => v.category).sum ≤ 8) (hdg : decode cc pc = .ok (.invokevirtual index, 3)) (hc : cells ≤ R.cells ∧ slots ≤ R.slots)
    (kk : ∀ (H1 : Heap) (locs1 : List Loc), XW D cA ad (tw 9) (put5 h k (likeM (sub h k) (sub h k2))) H1 → va_S A s.heap H1 locs1 → W p l e R s m args below meth c H1 locs1 cells slots Q (F0 m (pc + 3) ls rest)) : W p l e R s m args below meth c H locs cells slots Q (F0 m pc ls (.ref (ad (k2 + 5)) :: .ref (ad (k + 5)) :: rest)) :=
  va_callv (va_runV (As := [.ref (ad (k2 + 5))]) S (metX6_like l (E := fun _ _ => 0) (S := sub h k) (S2 := sub h k2) (sa := shf ad k) (sb := shf ad k2) (D := D) (cA := cA) (z0 := z0)) cw ⟨PhL.blind.pc, (hM.st2 hk).recv hK, fun U hU hW => ⟨rfl, by rw [hU]; exact hM.st2 hk, by rw [hU]; exact hM.st2 hk2, hJ.st hk, SD.st hJ hk hk2 hn, va_K.moved hW.alike hK⟩⟩ rfl rfl hsize rfl (lv_room hW) hdg hc) hS (fun q _ h => hA q (XA.st hk q h)) (fun q h => hA q (XA.st hk q h)) (fun u t H1 locs1 ht hvm hw hB hz hk1 hS1 => kk H1 locs1 (hM.pst hk hJ (by rw [← hw]; exact ht ▸ hB) hk1) hS1)
end XR2
