/-! 93.ptn: all lines of a town; the twin's reading -/
def pTn (tp : Nat → Nat) (n : Nat) : Nat → Nat → TT → Nat → ER TT
  | 0, _, _, _ => .error (1, 0)
  | f + 1, s, T, done => if ty tp n s = 0 then .ok T else eR (pLine tp n s T done) (fun x => pTn tp n f x.1 x.2 (done ||| lkS tp n s))
def T00 : TT := fun a b => if a = 0 ∧ b = 3 then 365 else if a = 0 ∧ b = 4 then 12 else 0
def pTown (tp : Nat → Nat) (n : Nat) : ER TT := pTn tp n (n + 1) (sk tp n 0) T00 0
section PTN
variable {tp : Nat → Nat} {n : Nat}
theorem or_lt : ∀ k, k < 8 → ∀ d, d < 8 → d ||| k < 8 := by decide +kernel
theorem t_lines {s0 done0 : Nat} {T0 : TT} {h : Mem} {a1 : Int32} (p : PT tp n s0 h) (t : THp T0 h) (iv : IV T0 done0) (hd : done0 < 8) {f0 : Nat} (hf : n < s0 + f0) {post : Int32 → Mem → Prop}
    (he : ∀ e h', pTn tp n f0 s0 T0 done0 = .error e → PO tp n (.error e) h' → TL h h' → wpBX7_town_148 post a1 h') (hp : ∀ T' s' h', pTn tp n f0 s0 T0 done0 = .ok T' → TOK T' → MOK T' → SGOK T' → PT tp n s' h' → THp T' h' → TL h h' → wpBX7_town_148 post a1 h') : ∃ m, wpLX7_town_125 post a1 m (h, nI done0) := by
  refine LW_ix (τ := Mem × LN × Nat × Nat) (fun t => (t.1, nI t.2.2.1)) (fun t => LO tp n t.2.1 t.1 ∧ TL h t.1 ∧ eR t.2.1 (fun x => pTn tp n t.2.2.2 x.1 x.2 t.2.2.1) = pTn tp n f0 s0 T0 done0 ∧ ∀ x, t.2.1 = .ok x → IV x.2 t.2.2.1 ∧ t.2.2.1 < 8 ∧ n < x.1 + t.2.2.2) (fun t => t.2.2.2) (fun K t ht kk => ?_) (h, .ok (s0, T0), done0, f0) ⟨⟨p, t⟩, TL.rf h, rfl, fun x hx => by
    injection hx with hx
    subst hx
    exact ⟨iv, hd, hf⟩⟩
  obtain ⟨y, r, done, f⟩ := t
  obtain ⟨ly, fy, ey, iy⟩ := ht
  dsimp only at ly fy ey iy
  unfold wpBX7_town_125
  try dsimp only
  cases r with
  | error e =>
    exact sw_f (PO.bad ly) (he e y ey.symm ly fy)
  | ok x =>
    obtain ⟨s, T⟩ := x
    have q : PT tp n s y := ly.1
    have ty0 : THp T y := ly.2
    obtain ⟨iv, hd, hf⟩ := iy (s, T) rfl
    have ey : pTn tp n f s T done = pTn tp n f0 s0 T0 done0 := ey
    have hs := q.1.2.2
    have h6 := q.1.1.1
    have lv := lk_v (tp := tp) (n := n) s
    have h20 : y 20 0 = nI (ty tp n s) := q.2.2.2.2.1
    have t4 := ty_le (tp := tp) (n := n) s
    cases f with
    | zero => have hf : n < s + 0 := hf; omega
    | succ f =>
      have es : pTn tp n (f + 1) s T done = if ty tp n s = 0 then .ok T else eR (pLine tp n s T done) (fun x => pTn tp n f x.1 x.2 (done ||| lkS tp n s)) := rfl
      rw [es] at ey
      refine sw_t q.ok0 ?_
      rw [h20]
      refine pk_e0 (ty tp n s) (fun c => ?_) (fun c => ?_)
      · rw [if_pos c] at ey
        exact hp T s y ey.symm iv.1.1 iv.1.2.1 iv.1.2.2 q ty0 fy
      · rw [if_neg c] at ey
        refine t_line q iv.1.1 iv.1.2.1 ty0 hd iv.2 (fun h2 l2 f2 => ?_)
        refine kk (h2, pLine tp n s T done, done ||| lkS tp n s, f) ⟨l2, fy.tr f2, ey, fun x hx => ?_⟩ (by show f < f + 1; omega)
        have g := line_IV hs h6 iv hd hx
        refine ⟨g.1, or_lt _ (by omega) _ hd, ?_⟩
        have hf : n < s + (f + 1) := hf
        show n < x.1 + f
        omega
theorem IV_0 : IV T00 0 := by
  have z : ∀ a b, a ≠ 0 → T00 a b = 0 := fun a b h => by
    unfold T00
    rw [if_neg (fun g => h g.1), if_neg (fun g => h g.1)]
  refine ⟨⟨⟨⟨by decide, by decide⟩, fun p hp => absurd hp (by show ¬ p < 0; omega), fun p hp => absurd hp (by show ¬ p < 0; omega), fun b hb => absurd hb (by show ¬ b < 0; omega), fun b i hb => absurd hb (by show ¬ b < 0; omega), fun b i j hb => absurd hb (by show ¬ b < 0; omega), by decide⟩, ⟨fun a b _ _ => ?_, by decide⟩, Or.inl rfl⟩, fun _ => rfl⟩
  rw [z 11 _ (by decide), z 11 _ (by decide)]
  exact ⟨by decide, rfl, fun _ => rfl⟩
end PTN
