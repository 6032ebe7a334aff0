section
/-! bits of an int and of a long (iv_bt, iv_lb); iv_shr and iv_lchk began as b_sshr and ts_bit of kit/laws/BITS.to-paste -/
def iv_bt (x : Int32) (i : Nat) : Bool := x.toBitVec.getLsbD i
theorem iv_ext {x y : Int32} (h : ∀ i, i < 32 → iv_bt x i = iv_bt y i) : x = y := Int32.toBitVec_inj.mp (BitVec.eq_of_getLsbD_eq (fun i hi => h i hi))
theorem iv_or (x y : Int32) (i : Nat) : iv_bt (x ||| y) i = (iv_bt x i || iv_bt y i) := by unfold iv_bt; rw [Int32.toBitVec_or, BitVec.getLsbD_or]
theorem iv_and (x y : Int32) (i : Nat) : iv_bt (x &&& y) i = (iv_bt x i && iv_bt y i) := by unfold iv_bt; rw [Int32.toBitVec_and, BitVec.getLsbD_and]
theorem iv_b0 (i : Nat) : iv_bt 0 i = false := BitVec.getLsbD_zero
theorem iv_b1 : ∀ i, i < 32 → i ≠ 0 → iv_bt 1 i = false := by decide +kernel
theorem iv_b10 : iv_bt 1 0 = true := by decide +kernel
theorem iv_one : ∀ k, k < 16 → ∀ i, i < 16 → iv_bt ((1 : Int32) <<< (nI k &&& 31)) i = decide (i = k) := by decide +kernel
theorem iv_sl : ∀ n, n < 32 → ((nI n &&& 31).toBitVec.smod 32).toNat = n := by decide +kernel
theorem iv_shr (n : Nat) (hn : n < 32) (x : Int32) {i : Nat} (hi : i < 32) : iv_bt (x >>> (nI n &&& 31)) i = if n + i < 32 then iv_bt x (n + i) else iv_bt x 31 := by
  unfold iv_bt
  rw [Int32.toBitVec_shiftRight]
  show (x.toBitVec.sshiftRight ((nI n &&& 31).toBitVec.smod 32).toNat).getLsbD i = _
  rw [iv_sl n hn, BitVec.getLsbD_sshiftRight, BitVec.msb_eq_getLsbD_last]
  simp [hi]
/-- the question (x >> k) & 1 == 0 -/
theorem iv_chk (x : Int32) (k : Nat) (hk : k < 16) : ((x >>> (nI k &&& 31)) &&& 1) = 0 ↔ iv_bt x k = false := by
  constructor
  · intro h
    have t : iv_bt ((x >>> (nI k &&& 31)) &&& 1) 0 = iv_bt 0 0 := by rw [h]
    rw [iv_and, iv_shr k (by omega) x (by decide), iv_b0, if_pos (by omega), iv_b10, Bool.and_true] at t
    exact t
  · intro h
    apply iv_ext
    intro i hi
    rw [iv_and, iv_b0]
    by_cases e : i = 0
    · subst e
      rw [iv_shr k (by omega) x (by decide), if_pos (by omega), Nat.add_zero, h, Bool.false_and]
    · rw [iv_b1 i hi e, Bool.and_false]
def iv_lb (x : Int64) (i : Nat) : Bool := x.toBitVec.getLsbD i
theorem iv_lor (x y : Int64) (i : Nat) : iv_lb (x ||| y) i = (iv_lb x i || iv_lb y i) := by unfold iv_lb; rw [Int64.toBitVec_or, BitVec.getLsbD_or]
theorem iv_l0 (i : Nat) : iv_lb 0 i = false := BitVec.getLsbD_zero
theorem iv_lone : ∀ k, k < 64 → ∀ i, i < 64 → iv_lb ((1 : Int64) <<< ((nI k).toInt64 &&& 63)) i = decide (i = k) := by decide +kernel
theorem iv_lcu : ∀ k, k < 64 → ((nI k).toInt64.toUInt64 &&& Int64.toUInt64 63).toNat = k := by decide +kernel
theorem iv_lchk (w : Int64) (j : Nat) (hj : j < 64) : ((w.toUInt64 >>> ((nI j).toInt64.toUInt64 &&& Int64.toUInt64 63)).toInt64 &&& 1) = 0 ↔ iv_lb w j = false := by
  have hs := iv_lcu j hj
  generalize ((nI j).toInt64.toUInt64 &&& Int64.toUInt64 63) = s at hs
  have e : (w.toUInt64 >>> s).toInt64.toBitVec = w.toBitVec >>> j := by
    apply BitVec.eq_of_toNat_eq
    show (w.toUInt64 >>> s).toNat = _
    rw [UInt64.toNat_shiftRight, hs, Nat.mod_eq_of_lt hj, BitVec.toNat_ushiftRight]
    rfl
  rw [← Int64.toBitVec_inj, Int64.toBitVec_and, e]
  show w.toBitVec >>> j &&& 1#64 = 0#64 ↔ w.toBitVec.getLsbD j = false
  constructor
  · intro h
    have t := congrArg (fun x => x.getLsbD 0) h
    simpa using t
  · intro h
    apply BitVec.eq_of_getLsbD_eq
    intro i hi
    cases i with
    | zero => simp [h]
    | succ i => simp
end
section
/-! the methods that sample calls, over a fresh object's state (count 0) -/
section
variable {post : St2 → Prop} {c nl gr un al ab : Int32} {sb : Int64} {a1 a2 a3 a4 a5 a6 a7 a8 a9 a10 a11 a12 : Nat → Int32}
theorem iv_div00 {post : Int32 → Prop} (H : post 0) : wpX_divisor post () 0 0 :=
  br_t (by decide) (br_t (by decide) ⟨1, br_f (by decide) (br_t rfl H)⟩)
theorem iv_tdiff {x : Nat} {v : Int32} (hx : x < 4) (h7 : a7 x = 0)
    (H : ∀ b6 b7, (∀ j, j ≠ x → b7 j = a7 j) → post (c, nl, gr, un, al, ab, sb, a1, a2, a3, a4, a5, b6, b7, a8, a9, a10, a11, a12)) :
    wpX_takeDifferent post (c, nl, gr, un, al, ab, sb, a1, a2, a3, a4, a5, a6, a7, a8, a9, a10, a11, a12) (nI x) v := by
  have e : nI x * 4 + 0 = nI (x * 4) := by
    rw [show (4 : Int32) = nI 4 from rfl, pk_mul, ← nI_0, nI_add]
    rfl
  have ec : (nI x).toNatClampNeg = x := nI_clamp (by omega)
  refine ⟨pk_in x 4 hx, nm_r (e' := (0 : Int32)) (by rw [ec]; exact h7) ⟨1, ?_⟩⟩
  refine br_t (by decide) ?_
  refine br_t (by decide) ⟨1, ?_⟩
  refine br_t (by decide) ?_
  refine ⟨pk_in (x * 4) 16 (by omega) e, nm_e ⟨pk_in x 4 hx, pk_in x 4 hx, nm_e ?_⟩⟩
  refine H _ _ (fun j hj => ?_)
  rw [ec]
  exact pk_un hj
theorem iv_tval {x : Nat} {v : Int32} (hx : x < 4) (h7 : a7 x = 0)
    (H : ∀ b2 b3 b4 b5 b6 b7, b3 x = v → (∀ j, j ≠ x → b3 j = a3 j) → b4 x = v → (∀ j, j ≠ x → b4 j = a4 j) → (∀ j, j ≠ x → b7 j = a7 j) → post (0, nl, gr, un, al, ab, sb, a1, b2, b3, b4, b5, b6, b7, a8, a9, a10, a11, a12)) :
    wpX_takeValue post (0, nl, gr, un, al, ab, sb, a1, a2, a3, a4, a5, a6, a7, a8, a9, a10, a11, a12) (nI x) v := by
  have ec : (nI x).toNatClampNeg = x := nI_clamp (by omega)
  have hi : vp_in (nI x) 4 := pk_in x 4 hx
  have eu : ∀ (f : Nat → Int32) (w : Int32), upd f x w (nI x).toNatClampNeg = w := fun f w => by rw [ec]; exact pk_us
  unfold wpX_takeValue
  refine br_t rfl ⟨hi, nm_e ⟨hi, nm_e ⟨hi, nm_e ⟨hi, nm_e ?_⟩⟩⟩⟩
  rw [ec]
  refine ⟨hi, br_t (by rw [eu]; exact Int32.le_refl v) ⟨hi, ?_⟩⟩
  rw [eu]
  refine ⟨hi, nm_e ⟨hi, br_t (by rw [eu]; exact Int32.le_refl v) ⟨hi, ?_⟩⟩⟩
  rw [eu, ec]
  refine ⟨hi, nm_e ⟨hi, hi, ?_⟩⟩
  rw [eu, eu, ec, Int32.sub_self]
  refine iv_div00 ⟨hi, nm_e (iv_tdiff hx h7 (fun b6 b7 h => ?_))⟩
  exact H _ _ _ _ _ _ pk_us (fun j hj => by rw [pk_un hj, pk_un hj]) pk_us (fun j hj => by rw [pk_un hj, pk_un hj]) h
theorem iv_tline {k : Nat} {p q : Int32} (hk : k < 16) (h8 : a8 k = 0)
    (H : ∀ b9 b10, post (c, nl, gr, un, al, ab, sb, a1, a2, a3, a4, a5, a6, a7, upd a8 k 1, b9, b10, a11, a12)) :
    wpX_takeLine post (c, nl, gr, un, al, ab, sb, a1, a2, a3, a4, a5, a6, a7, a8, a9, a10, a11, a12) (nI k) p q := by
  have ec : (nI k).toNatClampNeg = k := nI_clamp (by omega)
  have hi : vp_in (nI k) 16 := pk_in k 16 hk
  refine ⟨hi, br_t (by rw [ec]; exact h8) ⟨hi, nm_e ⟨hi, nm_e ⟨hi, nm_e ?_⟩⟩⟩⟩
  rw [ec]
  exact H _ _
section
variable {x y k : Nat} {x4 z0 z1 : Int32}
theorem iv_p186 (hx : x < 4) (hy : y < 4) (hk : k < 16) (h8 : a8 k = 0)
    (H : ∀ b9 b10, post (c, nl, gr, un, al, ab, sb, a1, a2, a3, a4, a5, a6, a7, upd a8 k 1, b9, b10, a11, a12)) :
    wX_takePair_186 post (nI x) (nI y) (nI k) c nl gr un al ab sb a1 a2 a3 a4 a5 a6 a7 a8 a9 a10 a11 a12 :=
  ⟨pk_in x 4 hx, pk_in y 4 hy, iv_tline hk h8 H⟩
theorem iv_p127 (hx : x < 4) (hy : y < 4) (hk : k < 16) (h8 : a8 k = 0)
    (H : ∀ al' b9 b10, post (0, nl, gr, un, al', ab, sb, a1, a2, a3, a4, a5, a6, a7, upd a8 k 1, b9, b10, a11, upd a12 k (a1 y - a1 x))) :
    wX_takePair_127 post (nI x) (nI y) (nI k) x4 z0 z1 0 nl gr un al ab sb a1 a2 a3 a4 a5 a6 a7 a8 a9 a10 a11 a12 := by
  have ex : (nI x).toNatClampNeg = x := nI_clamp (by omega)
  have ey : (nI y).toNatClampNeg = y := nI_clamp (by omega)
  have ek : (nI k).toNatClampNeg = k := nI_clamp (by omega)
  refine nm_e ⟨pk_in y 4 hy, pk_in x 4 hx, nm_r (e' := a1 y - a1 x) (by rw [ex, ey]) (br_t rfl ⟨pk_in k 16 hk, nm_r (e' := upd a12 k (a1 y - a1 x)) (by rw [ek]) ?_⟩)⟩
  exact iv_p186 hx hy hk h8 (H _)
theorem iv_p97 (hx : x < 4) (hy : y < 4) (hk : k < 16) (h8 : a8 k = 0)
    (H : ∀ un' al' b9 b10, post (0, nl, gr, un', al', ab, sb, a1, a2, a3, a4, a5, a6, a7, upd a8 k 1, b9, b10, a11, upd a12 k (a1 y - a1 x))) :
    wX_takePair_97 post (nI x) (nI y) (nI k) x4 z0 z1 0 nl gr un al ab sb a1 a2 a3 a4 a5 a6 a7 a8 a9 a10 a11 a12 :=
  nm_e ⟨pk_in x 4 hx, pk_in y 4 hy, br_c (fun _ => iv_p127 hx hy hk h8 (H _)) (fun _ => iv_p127 hx hy hk h8 (H _))⟩
theorem iv_p67 (hx : x < 4) (hy : y < 4) (hk : k < 16) (h8 : a8 k = 0)
    (H : ∀ gr' un' al' b9 b10, post (0, nl, gr', un', al', ab, sb, a1, a2, a3, a4, a5, a6, a7, upd a8 k 1, b9, b10, a11, upd a12 k (a1 y - a1 x))) :
    wX_takePair_67 post (nI x) (nI y) (nI k) x4 z0 z1 0 nl gr un al ab sb a1 a2 a3 a4 a5 a6 a7 a8 a9 a10 a11 a12 :=
  nm_e ⟨pk_in x 4 hx, pk_in y 4 hy, br_c (fun _ => iv_p97 hx hy hk h8 (H _)) (fun _ => iv_p97 hx hy hk h8 (H _))⟩
theorem iv_p37 (hx : x < 4) (hy : y < 4) (hk : k < 16) (h8 : a8 k = 0)
    (H : ∀ gr' un' al' b9 b10, post (0, z1 ||| z0, gr', un', al', ab, sb, a1, a2, a3, a4, a5, a6, a7, upd a8 k 1, b9, b10, a11, upd a12 k (a1 y - a1 x))) :
    wX_takePair_37 post (nI x) (nI y) (nI k) x4 z0 z1 0 nl gr un al ab sb a1 a2 a3 a4 a5 a6 a7 a8 a9 a10 a11 a12 :=
  nm_e ⟨pk_in x 4 hx, pk_in y 4 hy, br_c (fun _ => iv_p67 hx hy hk h8 H) (fun _ => iv_p67 hx hy hk h8 H)⟩
/-- one pair: its cell 4 x + y gets its bit of notLess, its difference, its point -/
theorem iv_tpair (hx : x < 4) (hy : y < 4) (h8 : a8 (4 * x + y) = 0)
    (H : ∀ nl' gr' un' al' b9 b10, (a1 x < a1 y → nl' = nl ||| 0) → (¬ a1 x < a1 y → nl' = nl ||| ((1 : Int32) <<< (nI (4 * x + y) &&& 31))) → post (0, nl', gr', un', al', ab, sb, a1, a2, a3, a4, a5, a6, a7, upd a8 (4 * x + y) 1, b9, b10, a11, upd a12 (4 * x + y) (a1 y - a1 x))) :
    wpX_takePair post (0, nl, gr, un, al, ab, sb, a1, a2, a3, a4, a5, a6, a7, a8, a9, a10, a11, a12) (nI x) (nI y) := by
  have ex : (nI x).toNatClampNeg = x := nI_clamp (by omega)
  have ey : (nI y).toNatClampNeg = y := nI_clamp (by omega)
  have e : 4 * nI x + nI y = nI (4 * x + y) := by
    rw [show (4 : Int32) = nI 4 from rfl, pk_mul, nI_add]
  unfold wpX_takePair
  refine nm_r e (nm_e ⟨pk_in x 4 hx, pk_in y 4 hy, br_c (fun z => ?_) (fun z => ?_)⟩)
  · rw [ex, ey] at z
    exact iv_p37 hx hy (by omega) h8 (fun gr' un' al' b9 b10 => H _ gr' un' al' b9 b10 (fun _ => rfl) (fun n => absurd z n))
  · rw [ex, ey] at z
    exact iv_p37 hx hy (by omega) h8 (fun gr' un' al' b9 b10 => H _ gr' un' al' b9 b10 (fun n => absurd n z) (fun _ => rfl))
end
/-- the sums met so far: bit k of sumBroken for k < i -/
def iv_S (N : Nat → Int32) (i : Nat) (s : Int64) : Prop := ∀ k, k < 64 → iv_lb s k = decide (k < i ∧ ¬ N (k / 16) + N (k / 4 % 4) = N (k % 4))
theorem iv_S_0 (N : Nat → Int32) : iv_S N 0 0 := fun k _ => by
  rw [iv_l0, eq_comm, decide_eq_false_iff_not]
  exact fun h => absurd h.1 (by omega)
theorem iv_S_skip {N : Nat → Int32} {i : Nat} {s : Int64} (h : iv_S N i s) (e : N (i / 16) + N (i / 4 % 4) = N (i % 4)) : iv_S N (i + 1) s := fun k hk => by
  rw [h k hk, decide_eq_decide]
  constructor
  · exact fun t => ⟨by omega, t.2⟩
  · intro t
    rcases Nat.lt_or_ge k i with z | z
    · exact ⟨z, t.2⟩
    · have : k = i := by omega
      subst this
      exact absurd e t.2
theorem iv_S_set {N : Nat → Int32} {i : Nat} {s : Int64} (hi : i < 64) (h : iv_S N i s) (e : ¬ N (i / 16) + N (i / 4 % 4) = N (i % 4)) : iv_S N (i + 1) (s ||| ((1 : Int64) <<< ((nI i).toInt64 &&& 63))) := fun k hk => by
  rw [iv_lor, h k hk, iv_lone i hi k hk, ← Bool.decide_or, decide_eq_decide]
  constructor
  · intro t
    rcases t with t | t
    · exact ⟨by omega, t.2⟩
    · subst t
      exact ⟨by omega, e⟩
  · intro t
    rcases Nat.lt_or_ge k i with z | z
    · exact Or.inl ⟨z, t.2⟩
    · exact Or.inr (by omega)
theorem iv_ts (H : ∀ s, iv_S a1 64 s → post (c, nl, gr, un, al, ab, s, a1, a2, a3, a4, a5, a6, a7, a8, a9, a10, a11, a12)) :
    ∀ m i, i + m = 64 → ∀ s, iv_S a1 i s → wX_takeSums_2 post c nl gr un al ab a1 a2 a3 a4 a5 a6 a7 a8 a9 a10 a11 a12 (m + 1) (nI i) s := by
  intro m
  induction m with
  | zero =>
    intro i hi s h
    have e : i = 64 := by omega
    subst e
    exact br_t (by decide) (H s h)
  | succ m ih =>
    intro i hi s h
    have e1 : nI i >>> ((4 : Int32) &&& 31) = nI (i / 16) := pk_shrN (by omega) _ 4 (by decide)
    have e2 : nI i >>> ((2 : Int32) &&& 31) = nI (i / 4) := pk_shrN (by omega) _ 2 (by decide)
    have e3 : (nI i >>> ((2 : Int32) &&& 31)) &&& 3 = nI (i / 4 % 4) := by rw [e2]; exact pk_andN (by omega) 2 (by decide)
    have e4 : nI i &&& 3 = nI (i % 4) := pk_andN (by omega) 2 (by decide)
    have c1 : (nI (i / 16)).toNatClampNeg = i / 16 := nI_clamp (by omega)
    have c3 : (nI (i / 4 % 4)).toNatClampNeg = i / 4 % 4 := nI_clamp (by omega)
    have c4 : (nI (i % 4)).toNatClampNeg = i % 4 := nI_clamp (by omega)
    refine pk_le 64 i (fun z => absurd z (by omega)) (fun _ => ?_)
    refine ⟨pk_in (i / 16) 4 (by omega) e1, pk_in (i / 4 % 4) 4 (by omega) e3, nm_r (e' := a1 (i / 16) + a1 (i / 4 % 4)) (by rw [e3, e1, c1, c3]) ⟨pk_in (i % 4) 4 (by omega) e4, br_c (fun z => ?_) (fun z => ?_)⟩⟩
    · rw [e4, c4] at z
      exact nm_r (nI_1 i) (ih (i + 1) (by omega) s (iv_S_skip h z))
    · rw [e4, c4] at z
      exact nm_e (nm_r (nI_1 i) (ih (i + 1) (by omega) _ (iv_S_set (by omega) h z)))
end
end
section
/-! sample on a fresh object -/
/-- the pairs' cells met so far: all below k (k = 4 x + y at the pair x, y) -/
def iv_P (N : Nat → Int32) (k : Nat) (nl : Int32) (a8 a12 : Nat → Int32) : Prop := ∀ x y, x < 4 → y < 4 → x ≠ y →
  (4 * x + y < k → iv_bt nl (4 * x + y) = decide (¬ N x < N y) ∧ a8 (4 * x + y) = 1 ∧ a12 (4 * x + y) = N y - N x) ∧ (k ≤ 4 * x + y → iv_bt nl (4 * x + y) = false ∧ a8 (4 * x + y) = 0)
theorem iv_P_0 (N a12 : Nat → Int32) : iv_P N 0 0 (fun _ => 0) a12 := fun x y _ _ _ => ⟨fun h => absurd h (by omega), fun _ => ⟨iv_b0 _, rfl⟩⟩
theorem iv_P_skip {N : Nat → Int32} {i j : Nat} {nl : Int32} {a8 a12 : Nat → Int32} (hi : i < 4) (e : i = j) (h : iv_P N (4 * i + j) nl a8 a12) : iv_P N (4 * i + (j + 1)) nl a8 a12 := fun x y hx hy hn =>
  ⟨fun z => (h x y hx hy hn).1 (by omega), fun z => (h x y hx hy hn).2 (by omega)⟩
theorem iv_P_set {N : Nat → Int32} {i j : Nat} {nl nl' : Int32} {a8 a12 : Nat → Int32} (hi : i < 4) (hj : j < 4) (hn : i ≠ j) (h : iv_P N (4 * i + j) nl a8 a12)
    (h1 : N i < N j → nl' = nl ||| 0) (h2 : ¬ N i < N j → nl' = nl ||| ((1 : Int32) <<< (nI (4 * i + j) &&& 31))) :
    iv_P N (4 * i + (j + 1)) nl' (upd a8 (4 * i + j) 1) (upd a12 (4 * i + j) (N j - N i)) := by
  intro x y hx hy hxy
  have hb : ∀ k, k < 16 → iv_bt nl' k = (iv_bt nl k || (decide (k = 4 * i + j) && decide (¬ N i < N j))) := by
    intro k hk
    by_cases z : N i < N j
    · rw [h1 z, iv_or, iv_b0, decide_eq_false (show ¬ ¬ N i < N j from fun n => n z), Bool.and_false]
    · rw [h2 z, iv_or, iv_one (4 * i + j) (by omega) k hk, decide_eq_true z, Bool.and_true]
  by_cases e : 4 * x + y = 4 * i + j
  · have ex : x = i := by omega
    have ey : y = j := by omega
    subst ex ey
    refine ⟨fun _ => ⟨?_, pk_us, pk_us⟩, fun z => absurd z (by omega)⟩
    rw [hb (4 * x + y) (by omega), ((h x y hx hy hxy).2 (Nat.le_refl _)).1, decide_eq_true rfl, Bool.true_and, Bool.false_or]
  · have q : iv_bt nl' (4 * x + y) = iv_bt nl (4 * x + y) := by
      rw [hb (4 * x + y) (by omega), decide_eq_false e, Bool.false_and, Bool.or_false]
    rw [q, pk_un e, pk_un e]
    exact ⟨fun z => (h x y hx hy hxy).1 (by omega), fun z => (h x y hx hy hxy).2 (by omega)⟩
/-- the variables met so far -/
def iv_V (N : Nat → Int32) (i : Nat) (a3 a4 a7 : Nat → Int32) : Prop := (∀ x, x < i → a3 x = N x ∧ a4 x = N x) ∧ (∀ x, i ≤ x → a7 x = 0)
theorem iv_V_0 (N a3 a4 : Nat → Int32) : iv_V N 0 a3 a4 (fun _ => 0) := ⟨fun x h => absurd h (by omega), fun _ _ => rfl⟩
theorem iv_V_s {N a3 a4 a7 b3 b4 b7 : Nat → Int32} {i : Nat} (h : iv_V N i a3 a4 a7) (h3 : b3 i = N i) (h3' : ∀ j, j ≠ i → b3 j = a3 j) (h4 : b4 i = N i) (h4' : ∀ j, j ≠ i → b4 j = a4 j) (h7 : ∀ j, j ≠ i → b7 j = a7 j) : iv_V N (i + 1) b3 b4 b7 := by
  refine ⟨fun x hx => ?_, fun x hx => ?_⟩
  · by_cases e : x = i
    · subst e
      exact ⟨h3, h4⟩
    · rw [h3' x e, h4' x e]
      exact h.1 x (by omega)
  · rw [h7 x (by omega)]
    exact h.2 x (by omega)
theorem iv_97 {post : Int32 → St2 → Prop} {J : Int32 → Int32 → Int32 → Int32 → Int32 → Int32 → Int32 → Int64 → (Nat → Int32) → (Nat → Int32) → (Nat → Int32) → (Nat → Int32) → (Nat → Int32) → (Nat → Int32) → (Nat → Int32) → (Nat → Int32) → (Nat → Int32) → (Nat → Int32) → (Nat → Int32) → (Nat → Int32) → Prop} {N a2 a3 a4 a5 a6 a7 a11 : Nat → Int32} {i : Nat} (hi : i < 4)
    (H : ∀ nl gr un al b8 b9 b10 b12, iv_P N (4 * i + 4) nl b8 b12 → J (nI (i + 1)) 0 nl gr un al 0 0 N a2 a3 a4 a5 a6 a7 b8 b9 b10 a11 b12) :
    ∀ m j, j + m = 4 → ∀ nl gr un al a8 a9 a10 a12, iv_P N (4 * i + j) nl a8 a12 → wX_sample_97 post J (nI i) (m + 1) (nI j) 0 nl gr un al 0 0 N a2 a3 a4 a5 a6 a7 a8 a9 a10 a11 a12 := by
  intro m
  induction m with
  | zero =>
    intro j hj nl gr un al a8 a9 a10 a12 h
    have e : j = 4 := by omega
    subst e
    exact br_t (by decide) (nm_r (nI_1 i) (H _ _ _ _ _ _ _ _ h))
  | succ m ih =>
    intro j hj nl gr un al a8 a9 a10 a12 h
    refine pk_le 4 j (fun z => absurd z (by omega)) (fun _ => ?_)
    refine pk_eq i j (fun z => nm_r (nI_1 j) (ih (j + 1) (by omega) _ _ _ _ _ _ _ _ (iv_P_skip hi z h))) (fun z => ?_)
    exact iv_tpair hi (by omega) ((h i j hi (by omega) z).2 (Nat.le_refl _)).2 (fun nl' gr' un' al' b9 b10 h1 h2 => nm_r (nI_1 j) (ih (j + 1) (by omega) _ _ _ _ _ _ _ _ (iv_P_set hi (by omega) z h h1 h2)))
theorem iv_75 {post : Int32 → St2 → Prop} {N : Nat → Int32}
    (H : ∀ nl gr un al s a2 a3 a4 a5 a6 a7 a8 a9 a10 a11 a12, iv_P N 16 nl a8 a12 → iv_V N 4 a3 a4 a7 → iv_S N 64 s → post 1 (1, nl, gr, un, al, 0, s, N, a2, a3, a4, a5, a6, a7, a8, a9, a10, a11, a12)) :
    ∀ m i, i + m = 4 → ∀ nl gr un al a2 a3 a4 a5 a6 a7 a8 a9 a10 a11 a12, iv_P N (4 * i) nl a8 a12 → iv_V N i a3 a4 a7 → wX_sample_75 post (m + 1) (nI i) 0 nl gr un al 0 0 N a2 a3 a4 a5 a6 a7 a8 a9 a10 a11 a12 := by
  intro m
  induction m with
  | zero =>
    intro i hi nl gr un al a2 a3 a4 a5 a6 a7 a8 a9 a10 a11 a12 hP hV
    have e : i = 4 := by omega
    subst e
    refine br_t (by decide) ⟨65, ?_⟩
    exact iv_ts (fun s hs => nm_r (e' := (1 : Int32)) (by decide) (H _ _ _ _ _ _ _ _ _ _ _ _ _ _ _ _ hP hV hs)) 64 0 rfl 0 (iv_S_0 N)
  | succ m ih =>
    intro i hi nl gr un al a2 a3 a4 a5 a6 a7 a8 a9 a10 a11 a12 hP hV
    have ec : (nI i).toNatClampNeg = i := nI_clamp (by omega)
    refine pk_le 4 i (fun z => absurd z (by omega)) (fun _ => ⟨pk_in i 4 (by omega), ?_⟩)
    rw [ec]
    refine iv_tval (by omega) (hV.2 i (Nat.le_refl _)) (fun b2 b3 b4 b5 b6 b7 h3 h3' h4 h4' h7 => ⟨5, ?_⟩)
    refine iv_97 (by omega) (fun nl gr un al b8 b9 b10 b12 h => ih (i + 1) (by omega) _ _ _ _ _ _ _ _ _ _ _ _ _ _ _ (by rw [Nat.mul_add]; exact h) (iv_V_s hV h3 h3' h4 h4' h7)) 4 0 rfl _ _ _ _ _ _ _ _ hP
abbrev iv_G (v : Int32) : Prop := ¬ v < (-100) ∧ ¬ 100 < v
theorem iv_isval {post : Int32 → Prop} {v : Int32} (h1 : iv_G v → post 1) (h0 : ¬ iv_G v → post 0) : wpX_isValue post () v :=
  br_c (fun z => h0 (fun g => g.1 z)) (fun z => br_c (fun z2 => h0 (fun g => g.2 z2)) (fun z2 => h1 ⟨z, z2⟩))
def iv_N (a b c d : Int32) : Nat → Int32 := upd (upd (upd (upd (fun _ => 0) 0 a) 1 b) 2 c) 3 d
/-- what the answers rest on: g says that the sample was taken -/
def iv_R (g : Prop) (N : Nat → Int32) (cnt nl ab : Int32) (s : Int64) (a3 a4 a8 a12 : Nat → Int32) : Prop :=
  (g → ¬ cnt = 0) ∧ (¬ g → cnt = 0) ∧ ab = 0 ∧ (g → ∀ i, i < 4 → a3 i = N i ∧ a4 i = N i)
  ∧ (∀ i j, i < 4 → j < 4 → i ≠ j → (iv_bt nl (4 * i + j) = false ↔ (g → N i < N j)) ∧ ¬ a8 (4 * i + j) = 2 ∧ (g → a12 (4 * i + j) = N j - N i))
  ∧ (∀ i j, i < 4 → j < 4 → (iv_lb s (16 * i + 4 * j + 3) = false ↔ (g → N i + N j = N 3)))
theorem iv_R_good {g : Prop} {N : Nat → Int32} {nl : Int32} {s : Int64} {a3 a4 a7 a8 a12 : Nat → Int32} (hg : g) (hP : iv_P N 16 nl a8 a12) (hV : iv_V N 4 a3 a4 a7) (hS : iv_S N 64 s) : iv_R g N 1 nl 0 s a3 a4 a8 a12 := by
  refine ⟨fun _ => by decide, fun n => absurd hg n, rfl, fun _ => hV.1, fun i j hi hj hn => ?_, fun i j hi hj => ?_⟩
  · obtain ⟨h1, h2, h3⟩ := (hP i j hi hj hn).1 (by omega)
    refine ⟨?_, by rw [h2]; decide, fun _ => h3⟩
    rw [h1, decide_eq_false_iff_not]
    exact ⟨fun t _ => Classical.byContradiction t, fun t n => n (t hg)⟩
  · rw [hS _ (by omega), decide_eq_false_iff_not, show (16 * i + 4 * j + 3) / 16 = i by omega, show (16 * i + 4 * j + 3) / 4 % 4 = j by omega, show (16 * i + 4 * j + 3) % 4 = 3 by omega]
    exact ⟨fun t _ => Classical.byContradiction (fun n => t ⟨by omega, n⟩), fun t n => n.2 (t hg)⟩
theorem iv_R_bad {g : Prop} {N : Nat → Int32} (hg : ¬ g) : iv_R g N 0 0 0 0 (fun _ => 0) (fun _ => 0) (fun _ => 0) (fun _ => 0) :=
  ⟨fun h => absurd h hg, fun _ => rfl, rfl, fun h => absurd h hg, fun i j _ _ _ => ⟨⟨fun _ h => absurd h hg, fun _ => iv_b0 _⟩, (show ¬ (0 : Int32) = 2 by decide), fun h => absurd h hg⟩, fun i j _ _ => ⟨fun _ h => absurd h hg, fun _ => iv_l0 _⟩⟩
theorem iv_smp {post : Int32 → St2 → Prop} {a b c d : Int32}
    (H : ∀ r cnt nl gr un al ab s a1 a2 a3 a4 a5 a6 a7 a8 a9 a10 a11 a12, ((iv_G a ∧ iv_G b ∧ iv_G c ∧ iv_G d) → r = 1) → (¬ (iv_G a ∧ iv_G b ∧ iv_G c ∧ iv_G d) → r = -1) → iv_R (iv_G a ∧ iv_G b ∧ iv_G c ∧ iv_G d) (iv_N a b c d) cnt nl ab s a3 a4 a8 a12 → post r (cnt, nl, gr, un, al, ab, s, a1, a2, a3, a4, a5, a6, a7, a8, a9, a10, a11, a12)) :
    wpX_sample post (0, 0, 0, 0, 0, 0, 0, (fun _ => 0), (fun _ => 0), (fun _ => 0), (fun _ => 0), (fun _ => 0), (fun _ => 0), (fun _ => 0), (fun _ => 0), (fun _ => 0), (fun _ => 0), (fun _ => 0), (fun _ => 0)) a b c d := by
  have B : ¬ (iv_G a ∧ iv_G b ∧ iv_G c ∧ iv_G d) → post (-1) (0, 0, 0, 0, 0, 0, 0, (fun _ => 0), (fun _ => 0), (fun _ => 0), (fun _ => 0), (fun _ => 0), (fun _ => 0), (fun _ => 0), (fun _ => 0), (fun _ => 0), (fun _ => 0), (fun _ => 0), (fun _ => 0)) :=
    fun n => H (-1) _ _ _ _ _ _ _ _ _ _ _ _ _ _ _ _ _ _ _ (fun g => absurd g n) (fun _ => rfl) (iv_R_bad n)
  unfold wpX_sample
  refine iv_isval (fun ga => br_f (by decide) ?_) (fun n => br_t rfl (B (fun g => n g.1)))
  refine iv_isval (fun gb => br_f (by decide) ?_) (fun n => br_t rfl (B (fun g => n g.2.1)))
  refine iv_isval (fun gc => br_f (by decide) ?_) (fun n => br_t rfl (B (fun g => n g.2.2.1)))
  refine iv_isval (fun gd => br_f (by decide) ?_) (fun n => br_t rfl (B (fun g => n g.2.2.2)))
  refine br_t (by decide) (nm_e (nm_e (nm_e (nm_e ⟨5, ?_⟩))))
  exact iv_75 (N := iv_N a b c d) (fun nl gr un al s a2 a3 a4 a5 a6 a7 a8 a9 a10 a11 a12 hP hV hS => H 1 _ _ _ _ _ _ _ _ _ _ _ _ _ _ _ _ _ _ _ (fun _ => rfl) (fun n => absurd ⟨ga, gb, gc, gd⟩ n) (iv_R_good ⟨ga, gb, gc, gd⟩ hP hV hS)) 4 0 rfl _ _ _ _ _ _ _ _ _ _ _ _ _ _ _ (iv_P_0 _ _) (iv_V_0 _ _ _)
end
section
/-! the answers over iv_R -/
abbrev iv_X (x : Int32) : Prop := ¬ x < 0 ∧ ¬ 3 < x
theorem iv_34 {x : Int32} : 3 < x ↔ 4 ≤ x := by
  rw [Int32.lt_iff_toInt_lt, Int32.le_iff_toInt_le, show (3 : Int32).toInt = 3 by decide, show (4 : Int32).toInt = 4 by decide]
  omega
theorem iv_Xof {x : Int32} (h : iv_X x) : ∃ i : Nat, i < 4 ∧ x = nI i := by
  obtain ⟨j, hj, e⟩ := nI_of2 (M := 3) (n := 3) (by decide) h.1 (Int32.not_lt.mp h.2)
  exact ⟨j, by omega, e⟩
def iv_W (a b c d : Int32) (x : Int32) : Int32 := if x = 0 then a else if x = 1 then b else if x = 2 then c else d
theorem iv_NW (a b c d : Int32) : ∀ i, i < 4 → iv_N a b c d i = iv_W a b c d (nI i) := by
  intro i hi
  have h : i = 0 ∨ i = 1 ∨ i = 2 ∨ i = 3 := by omega
  rcases h with rfl | rfl | rfl | rfl <;> rfl
theorem iv_isv {post : Int32 → Prop} {x : Int32} (h1 : iv_X x → post 1) (h0 : ¬ iv_X x → post 0) : wpX_isVariable post () x :=
  br_c (fun z => h0 (fun g => g.1 z)) (fun z => br_c (fun z2 => h0 (fun g => g.2 (iv_34.mpr z2))) (fun z2 => h1 ⟨z, fun g => z2 (iv_34.mp g)⟩))
abbrev iv_B (x y : Int32) : Prop := iv_X x ∧ iv_X y ∧ ¬ x = y
theorem iv_isp {post : Int32 → Prop} {x y : Int32} (h1 : iv_B x y → post 1) (h0 : ¬ iv_B x y → post 0) : wpX_isPair post () x y := by
  unfold wpX_isPair
  refine iv_isv (fun gx => br_f (by decide) ?_) (fun n => br_t rfl (h0 (fun g => n g.1)))
  refine iv_isv (fun gy => br_f (by decide) ?_) (fun n => br_t rfl (h0 (fun g => n g.2.1)))
  exact br_c (fun e => h0 (fun g => g.2.2 e)) (fun e => h1 ⟨gx, gy, e⟩)
section
variable {post : Int32 → Prop} {g : Prop} {N : Nat → Int32} {W : Int32 → Int32} {x y : Int32} {c nl gr un al ab : Int32} {sb : Int64} {a1 a2 a3 a4 a5 a6 a7 a8 a9 a10 a11 a12 : Nat → Int32}
theorem iv_con (hR : iv_R g N c nl ab sb a3 a4 a8 a12) (hW : ∀ i, i < 4 → N i = W (nI i))
    (H : ∀ r, (g → iv_X x → r = W x) → (¬ (g ∧ iv_X x) → r = -1000) → post r) :
    wpX_constant post (c, nl, gr, un, al, ab, sb, a1, a2, a3, a4, a5, a6, a7, a8, a9, a10, a11, a12) x := by
  have B : ¬ (g ∧ iv_X x) → post (-1000) := fun n => H _ (fun h1 h2 => absurd ⟨h1, h2⟩ n) (fun _ => rfl)
  unfold wpX_constant
  refine iv_isv (fun gx => br_f (by decide) (br_c (fun z => B (fun t => hR.1 t.1 z)) (fun z => ?_))) (fun n => br_t rfl (B (fun t => n t.2)))
  have hg : g := Classical.byContradiction (fun n => z (hR.2.1 n))
  obtain ⟨i, hi, e⟩ := iv_Xof gx
  have ec : x.toNatClampNeg = i := by rw [e]; exact nI_clamp (by omega)
  have hin : vp_in x 4 := pk_in i 4 hi e
  obtain ⟨h3, h4⟩ := hR.2.2.2.1 hg i hi
  refine ⟨hin, hin, br_t (by rw [ec, h3, h4]) ⟨hin, ?_⟩⟩
  rw [ec, h3]
  exact H _ (fun _ _ => by rw [hW i hi, e]) (fun n => absurd ⟨hg, gx⟩ n)
theorem iv_cell {i j : Nat} (hx : x = nI i) (hy : y = nI j) : 4 * x + y = nI (4 * i + j) := by
  rw [hx, hy, show (4 : Int32) = nI 4 from rfl, pk_mul, nI_add]
theorem iv_rel (hR : iv_R g N c nl ab sb a3 a4 a8 a12) (hW : ∀ i, i < 4 → N i = W (nI i))
    (H : ∀ r, (iv_B x y → (g → W x < W y) → r = 1) → (¬ (iv_B x y ∧ (g → W x < W y)) → r = 0) → post r) :
    wpX_relation post (c, nl, gr, un, al, ab, sb, a1, a2, a3, a4, a5, a6, a7, a8, a9, a10, a11, a12) x y 0 := by
  have B : ¬ (iv_B x y ∧ (g → W x < W y)) → post 0 := fun n => H _ (fun h1 h2 => absurd ⟨h1, h2⟩ n) (fun _ => rfl)
  unfold wpX_relation
  refine iv_isp (fun gp => br_f (by decide) (br_f (by decide) (br_t (by decide) (br_t rfl ?_)))) (fun n => br_t rfl (B (fun t => n t.1)))
  obtain ⟨i, hi, ei⟩ := iv_Xof gp.1
  obtain ⟨j, hj, ej⟩ := iv_Xof gp.2.1
  have hn : i ≠ j := fun q => gp.2.2 (by rw [ei, ej, q])
  have hb := (hR.2.2.2.2.1 i j hi hj hn).1
  rw [hW i hi, hW j hj, ← ei, ← ej] at hb
  have hk := iv_chk nl (4 * i + j) (by omega)
  unfold wX_relation_58
  rw [iv_cell ei ej]
  exact br_c (fun z => H _ (fun _ _ => rfl) (fun n => absurd ⟨gp, hb.mp (hk.mp z)⟩ n)) (fun z => B (fun t => z (hk.mpr (hb.mpr t.2))))
theorem iv_off (hR : iv_R g N c nl ab sb a3 a4 a8 a12) (hW : ∀ i, i < 4 → N i = W (nI i))
    (H : ∀ r, (g → iv_B x y → r = W y - W x) → (¬ (g ∧ iv_B x y) → r = -1000) → post r) :
    wpX_offset post (c, nl, gr, un, al, ab, sb, a1, a2, a3, a4, a5, a6, a7, a8, a9, a10, a11, a12) x y := by
  have B : ¬ (g ∧ iv_B x y) → post (-1000) := fun n => H _ (fun h1 h2 => absurd ⟨h1, h2⟩ n) (fun _ => rfl)
  unfold wpX_offset
  refine iv_isp (fun gp => br_f (by decide) (br_c (fun z => B (fun t => hR.1 t.1 z)) (fun z => ?_))) (fun n => br_t rfl (B (fun t => n t.2)))
  have hg : g := Classical.byContradiction (fun n => z (hR.2.1 n))
  obtain ⟨i, hi, ei⟩ := iv_Xof gp.1
  obtain ⟨j, hj, ej⟩ := iv_Xof gp.2.1
  have hn : i ≠ j := fun q => gp.2.2 (by rw [ei, ej, q])
  have hd := (hR.2.2.2.2.1 i j hi hj hn).2.2 hg
  rw [hW i hi, hW j hj, ← ei, ← ej] at hd
  have ec : (nI (4 * i + j)).toNatClampNeg = 4 * i + j := nI_clamp (by omega)
  refine nm_r (iv_cell ei ej) (br_t ?_ ⟨pk_in (4 * i + j) 16 (by omega), ?_⟩)
  · rw [hR.2.2.1]
    exact (iv_chk 0 (4 * i + j) (by omega)).mpr (iv_b0 _)
  · rw [ec, hd]
    exact H _ (fun _ _ => rfl) (fun n => absurd ⟨hg, gp⟩ n)
theorem iv_sums (hR : iv_R g N c nl ab sb a3 a4 a8 a12) (hW : ∀ i, i < 4 → N i = W (nI i))
    (H : ∀ r, (iv_X x → iv_X y → (g → W x + W y = W 3) → r = 1) → (¬ (iv_X x ∧ iv_X y ∧ (g → W x + W y = W 3)) → r = 0) → post r) :
    wpX_sums post (c, nl, gr, un, al, ab, sb, a1, a2, a3, a4, a5, a6, a7, a8, a9, a10, a11, a12) x y 3 := by
  have B : ¬ (iv_X x ∧ iv_X y ∧ (g → W x + W y = W 3)) → post 0 := fun n => H _ (fun h1 h2 h3 => absurd ⟨h1, h2, h3⟩ n) (fun _ => rfl)
  unfold wpX_sums
  refine iv_isv (fun gx => br_f (by decide) ?_) (fun n => br_t rfl (B (fun t => n t.1)))
  refine iv_isv (fun gy => br_f (by decide) ?_) (fun n => br_t rfl (B (fun t => n t.2.1)))
  refine iv_isv (fun _ => br_f (by decide) ?_) (fun n => absurd (by decide) n)
  obtain ⟨i, hi, ei⟩ := iv_Xof gx
  obtain ⟨j, hj, ej⟩ := iv_Xof gy
  have hb := hR.2.2.2.2.2 i j hi hj
  rw [hW i hi, hW j hj, hW 3 (by decide), ← ei, ← ej] at hb
  have hk := iv_lchk sb (16 * i + 4 * j + 3) (by omega)
  have e : 16 * x + 4 * y + 3 = nI (16 * i + 4 * j + 3) := by
    rw [ei, ej, show (4 : Int32) = nI 4 from rfl, show (16 : Int32) = nI 16 from rfl, show (3 : Int32) = nI 3 from rfl, pk_mul, pk_mul, nI_add, nI_add]
  rw [e]
  exact br_c (fun z => H _ (fun _ _ _ => rfl) (fun n => absurd ⟨gx, gy, hb.mp (hk.mp z)⟩ n)) (fun z => B (fun t => z (hk.mpr (hb.mpr t.2.2))))
theorem iv_line (hR : iv_R g N c nl ab sb a3 a4 a8 a12) (H : post 0) :
    wpX_line post (c, nl, gr, un, al, ab, sb, a1, a2, a3, a4, a5, a6, a7, a8, a9, a10, a11, a12) x y := by
  unfold wpX_line
  dsimp only
  unfold wpX_hasLine
  refine iv_isp (fun gp => br_f (by decide) ?_) (fun n => br_t rfl (br_t rfl H))
  obtain ⟨i, hi, ei⟩ := iv_Xof gp.1
  obtain ⟨j, hj, ej⟩ := iv_Xof gp.2.1
  have hn : i ≠ j := fun q => gp.2.2 (by rw [ei, ej, q])
  have h8 := (hR.2.2.2.2.1 i j hi hj hn).2.1
  have ec : (4 * x + y).toNatClampNeg = 4 * i + j := by rw [iv_cell ei ej]; exact nI_clamp (by omega)
  exact ⟨pk_in (4 * i + j) 16 (by omega) (iv_cell ei ej), br_f (by rw [ec]; exact h8) (br_t rfl H)⟩
end
end
section
/-! the law's own comparisons, stage by stage from the last one up, and the owed statement -/
theorem iv_nn {x : Int32} {p : Prop} (h : x = 0 ↔ ¬ p) (e : ¬ x = 0) : p := Classical.byContradiction (fun n => e (h.mpr n))
theorem iv_f0 {p : Prop} (h : ¬ p) : (0 : Int32) = 0 ↔ ¬ p := ⟨fun _ => h, fun _ => rfl⟩
theorem iv_f1 {p : Prop} (h : p) : (1 : Int32) = 0 ↔ ¬ p := ⟨fun e => absurd e (by decide), fun n => absurd h n⟩
section
variable {post : Int32 → St0 → Prop} {mc ms kc ks : Nat} {g X Y B : Prop} {x0 x1 x2 x3 x4 x5 x7 x8 x9 x10 x11 x12 x13 x14 x15 x16 x17 x18 z0 z1 : Int32}
theorem iv_376 (h : z1 = z0) (h12 : x12 = 0) (hp : post 1 ()) : wL_lawOf_376 post mc ms x12 z0 z1 kc ks := br_t h (br_t h12 hp)
theorem iv_342 (h13 : x13 = 0 ↔ ¬ g) (h14 : x14 = 0 ↔ ¬ X) (h15 : x15 = 0 ↔ ¬ Y) (s1 : X → Y → (g → x17 + x18 = x3) → x11 = 1) (s0 : ¬ (X ∧ Y ∧ (g → x17 + x18 = x3)) → x11 = 0) (h12 : x12 = 0) (hp : post 1 ()) (hz : z1 = z0) :
    wL_lawOf_342 post mc ms x3 x11 x12 x13 x14 x15 x17 x18 z0 z1 kc ks := by
  unfold wL_lawOf_342
  refine br_t hz (br_c (fun e14 => iv_376 (s0 (fun t => h14.mp e14 t.1)) h12 hp) (fun e14 => br_c (fun e15 => iv_376 (s0 (fun t => h15.mp e15 t.2.1)) h12 hp) (fun e15 => ?_)))
  refine br_c (fun e13 => iv_376 (s1 (iv_nn h14 e14) (iv_nn h15 e15) (fun hg => absurd hg (h13.mp e13))) h12 hp) (fun e13 => ?_)
  exact br_c (fun e => iv_376 (s1 (iv_nn h14 e14) (iv_nn h15 e15) (fun _ => e)) h12 hp) (fun e => iv_376 (s0 (fun t => e (t.2.2 (iv_nn h13 e13)))) h12 hp)
theorem iv_316 (h13 : x13 = 0 ↔ ¬ g) (h16 : x16 = 0 ↔ ¬ B) (s1 : g → B → x10 = x18 - x17) (s0 : ¬ (g ∧ B) → x10 = -1000)
    (K : ∀ z0 z1, z1 = z0 → wL_lawOf_342 post mc ms x3 x11 x12 x13 x14 x15 x17 x18 z0 z1 kc ks) (hz : z1 = z0) :
    wL_lawOf_316 post mc ms x3 x10 x11 x12 x13 x14 x15 x16 x17 x18 z0 z1 kc ks := by
  unfold wL_lawOf_316
  refine br_t hz (br_c (fun e13 => K _ _ (s0 (fun t => h13.mp e13 t.1))) (fun e13 => ?_))
  exact br_c (fun e16 => K _ _ (s0 (fun t => h16.mp e16 t.2))) (fun e16 => K _ _ (s1 (iv_nn h13 e13) (iv_nn h16 e16)))
theorem iv_289 (h13 : x13 = 0 ↔ ¬ g) (h16 : x16 = 0 ↔ ¬ B) (s1 : B → (g → x17 < x18) → x9 = 1) (s0 : ¬ (B ∧ (g → x17 < x18)) → x9 = 0)
    (K : ∀ z0 z1, z1 = z0 → wL_lawOf_316 post mc ms x3 x10 x11 x12 x13 x14 x15 x16 x17 x18 z0 z1 kc ks) (hz : z1 = z0) :
    wL_lawOf_289 post mc ms x3 x9 x10 x11 x12 x13 x14 x15 x16 x17 x18 z0 z1 kc ks := by
  unfold wL_lawOf_289
  refine br_t hz (br_c (fun e16 => K _ _ (s0 (fun t => h16.mp e16 t.1))) (fun e16 => ?_))
  refine br_c (fun e13 => K _ _ (s1 (iv_nn h16 e16) (fun hg => absurd hg (h13.mp e13)))) (fun e13 => ?_)
  exact br_c (fun e => K _ _ (s0 (fun t => absurd (t.2 (iv_nn h13 e13)) (Int32.not_lt.mpr e)))) (fun e => K _ _ (s1 (iv_nn h16 e16) (fun _ => Int32.not_le.mp e)))
theorem iv_266 (h13 : x13 = 0 ↔ ¬ g) (h14 : x14 = 0 ↔ ¬ X) (s1 : g → X → x8 = x17) (s0 : ¬ (g ∧ X) → x8 = -1000)
    (K : ∀ z0 z1, z1 = z0 → wL_lawOf_289 post mc ms x3 x9 x10 x11 x12 x13 x14 x15 x16 x17 x18 z0 z1 kc ks) (hz : z1 = z0) :
    wL_lawOf_266 post mc ms x3 x8 x9 x10 x11 x12 x13 x14 x15 x16 x17 x18 z0 z1 kc ks := by
  unfold wL_lawOf_266
  refine br_t hz (br_c (fun e13 => K _ _ (s0 (fun t => h13.mp e13 t.1))) (fun e13 => ?_))
  exact br_c (fun e14 => K _ _ (s0 (fun t => h14.mp e14 t.2))) (fun e14 => K _ _ (s1 (iv_nn h13 e13) (iv_nn h14 e14)))
theorem iv_252 (h13 : x13 = 0 ↔ ¬ g) (s1 : g → x7 = 1) (s0 : ¬ g → x7 = -1)
    (K : ∀ u v, v = u → wL_lawOf_266 post mc ms x3 x8 x9 x10 x11 x12 x13 x14 x15 x16 x17 z0 u v kc ks) :
    wL_lawOf_252 post mc ms x3 x7 x8 x9 x10 x11 x12 x13 x14 x15 x16 x17 z0 kc ks :=
  br_c (fun e13 => K _ _ (s0 (h13.mp e13))) (fun e13 => K _ _ (s1 (iv_nn h13 e13)))
theorem iv_sel {P : Int32 → Prop} {x : Int32} (K : ∀ w, w = iv_W x0 x1 x2 x3 x → P w) : (x = 0 → P x0) ∧ (¬ x = 0 → ((x = 1 → P x1) ∧ (¬ x = 1 → ((x = 2 → P x2) ∧ (¬ x = 2 → P x3))))) :=
  br_c (fun e => K _ (by unfold iv_W; rw [if_pos e])) (fun e => br_c (fun f => K _ (by unfold iv_W; rw [if_neg e, if_pos f])) (fun f => br_c (fun h => K _ (by unfold iv_W; rw [if_neg e, if_neg f, if_pos h])) (fun h => K _ (by unfold iv_W; rw [if_neg e, if_neg f, if_neg h]))))
theorem iv_220 (K : ∀ w, w = iv_W x0 x1 x2 x3 x5 → wL_lawOf_252 post mc ms x3 x7 x8 x9 x10 x11 x12 x13 x14 x15 x16 z0 w kc ks) :
    wL_lawOf_220 post mc ms x0 x1 x2 x3 x5 x7 x8 x9 x10 x11 x12 x13 x14 x15 x16 z0 kc ks :=
  iv_sel (P := fun w => wL_lawOf_252 post mc ms x3 x7 x8 x9 x10 x11 x12 x13 x14 x15 x16 z0 w kc ks) K
theorem iv_188 (K : ∀ v, v = iv_W x0 x1 x2 x3 x4 → wL_lawOf_220 post mc ms x0 x1 x2 x3 x5 x7 x8 x9 x10 x11 x12 x13 x14 x15 z0 v kc ks) :
    wL_lawOf_188 post mc ms x0 x1 x2 x3 x4 x5 x7 x8 x9 x10 x11 x12 x13 x14 x15 z0 kc ks :=
  iv_sel (P := fun w => wL_lawOf_220 post mc ms x0 x1 x2 x3 x5 x7 x8 x9 x10 x11 x12 x13 x14 x15 z0 w kc ks) K
theorem iv_164 (h14 : x14 = 0 ↔ ¬ iv_X x4) (hz : z0 = 0 ↔ ¬ iv_X x5)
    (K : ∀ f, (f = 0 ↔ ¬ iv_B x4 x5) → wL_lawOf_188 post mc ms x0 x1 x2 x3 x4 x5 x7 x8 x9 x10 x11 x12 x13 x14 z0 f kc ks) :
    wL_lawOf_164 post mc ms x0 x1 x2 x3 x4 x5 x7 x8 x9 x10 x11 x12 x13 x14 z0 kc ks := by
  unfold wL_lawOf_164
  refine br_c (fun e14 => K _ (iv_f0 (fun t => h14.mp e14 t.1))) (fun e14 => br_c (fun e => K _ (iv_f0 (fun t => hz.mp e t.2.1))) (fun e => ?_))
  exact br_c (fun q => K _ (iv_f0 (fun t => t.2.2 q))) (fun q => K _ (iv_f1 ⟨iv_nn h14 e14, iv_nn hz e, q⟩))
theorem iv_146 (K : ∀ f, (f = 0 ↔ ¬ iv_X x5) → wL_lawOf_164 post mc ms x0 x1 x2 x3 x4 x5 x7 x8 x9 x10 x11 x12 x13 z0 f kc ks) :
    wL_lawOf_146 post mc ms x0 x1 x2 x3 x4 x5 x7 x8 x9 x10 x11 x12 x13 z0 kc ks :=
  br_c (fun e => K _ (iv_f0 (fun t => t.1 e))) (fun e => br_c (fun f => K _ (iv_f0 (fun t => t.2 f))) (fun f => K _ (iv_f1 ⟨e, f⟩)))
theorem iv_128 (K : ∀ f, (f = 0 ↔ ¬ iv_X x4) → wL_lawOf_146 post mc ms x0 x1 x2 x3 x4 x5 x7 x8 x9 x10 x11 x12 z0 f kc ks) :
    wL_lawOf_128 post mc ms x0 x1 x2 x3 x4 x5 x7 x8 x9 x10 x11 x12 z0 kc ks :=
  br_c (fun e => K _ (iv_f0 (fun t => t.1 e))) (fun e => br_c (fun f => K _ (iv_f0 (fun t => t.2 f))) (fun f => K _ (iv_f1 ⟨e, f⟩)))
/-- the law's answer, all that it compares being as iv_con, iv_rel, iv_off, iv_sums and iv_line give it -/
theorem iv_end (hz : z0 = 0 ↔ ¬ g) (hp : post 1 ())
    (s7 : g → x7 = 1) (t7 : ¬ g → x7 = -1)
    (s8 : g → iv_X x4 → x8 = iv_W x0 x1 x2 x3 x4) (t8 : ¬ (g ∧ iv_X x4) → x8 = -1000)
    (s9 : iv_B x4 x5 → (g → iv_W x0 x1 x2 x3 x4 < iv_W x0 x1 x2 x3 x5) → x9 = 1) (t9 : ¬ (iv_B x4 x5 ∧ (g → iv_W x0 x1 x2 x3 x4 < iv_W x0 x1 x2 x3 x5)) → x9 = 0)
    (s10 : g → iv_B x4 x5 → x10 = iv_W x0 x1 x2 x3 x5 - iv_W x0 x1 x2 x3 x4) (t10 : ¬ (g ∧ iv_B x4 x5) → x10 = -1000)
    (s11 : iv_X x4 → iv_X x5 → (g → iv_W x0 x1 x2 x3 x4 + iv_W x0 x1 x2 x3 x5 = x3) → x11 = 1) (t11 : ¬ (iv_X x4 ∧ iv_X x5 ∧ (g → iv_W x0 x1 x2 x3 x4 + iv_W x0 x1 x2 x3 x5 = x3)) → x11 = 0)
    (h12 : x12 = 0) :
    wL_lawOf_128 post mc ms x0 x1 x2 x3 x4 x5 x7 x8 x9 x10 x11 x12 z0 kc ks := by
  refine iv_128 (fun f14 h14 => iv_146 (fun f15 h15 => iv_164 h14 h15 (fun f16 h16 => iv_188 (fun v hv => iv_220 (fun w hw => ?_)))))
  rw [← hv, ← hw] at s9 t9 s10 s11 t11
  rw [← hv] at s8
  exact iv_252 hz s7 t7 (fun _ _ e => iv_266 hz h14 s8 t8 (fun _ _ e => iv_289 hz h16 s9 t9 (fun _ _ e => iv_316 hz h16 s10 t10 (fun _ _ e => iv_342 hz h14 h15 s11 t11 h12 hp e) e) e) e)
end
theorem iv_lawOf {post : Int32 → St0 → Prop} (a b c d x y : Int32) (hp : post 1 ()) : wpL_lawOf post 90 1424 () a b c d x y := by
  unfold wpL_lawOf
  refine ⟨by omega, by omega, 12, 120, by omega, by omega, ?_⟩
  unfold wpX_init
  dsimp only
  refine ⟨by omega, by omega, by omega, by omega, by omega, by omega, by omega, by omega, by omega, by omega, by omega, by omega, by omega, by omega, by omega, by omega, by omega, by omega, by omega, by omega, by omega, by omega, by omega, by omega, ?_⟩
  refine iv_smp (fun r cnt nl gr un al ab s a1 a2 a3 a4 a5 a6 a7 a8 a9 a10 a11 a12 h7 t7 hR => ?_)
  refine iv_con hR (iv_NW a b c d) (fun r8 s8 t8 => ?_)
  refine iv_rel hR (iv_NW a b c d) (fun r9 s9 t9 => ?_)
  refine iv_off hR (iv_NW a b c d) (fun r10 s10 t10 => ?_)
  refine iv_sums hR (iv_NW a b c d) (fun r11 s11 t11 => ?_)
  refine iv_line hR ?_
  have E : ∀ z0 : Int32, (z0 = 0 ↔ ¬ (iv_G a ∧ iv_G b ∧ iv_G c ∧ iv_G d)) → wL_lawOf_128 post 90 1424 a b c d x y r r8 r9 r10 r11 0 z0 (1 + 12) (19 + 120) :=
    fun z0 hz => iv_end hz hp h7 t7 s8 t8 s9 t9 s10 t10 s11 t11 rfl
  have E0 : ¬ (iv_G a ∧ iv_G b ∧ iv_G c ∧ iv_G d) → wL_lawOf_127 post 90 1424 a b c d x y r r8 r9 r10 r11 0 (1 + 12) (19 + 120) := fun n => E 0 (iv_f0 n)
  refine br_c (fun z => E0 (fun g => g.1.1 z)) (fun z1 => br_c (fun z => E0 (fun g => g.1.2 z)) (fun z2 => ?_))
  refine br_c (fun z => E0 (fun g => g.2.1.1 z)) (fun z3 => br_c (fun z => E0 (fun g => g.2.1.2 z)) (fun z4 => ?_))
  refine br_c (fun z => E0 (fun g => g.2.2.1.1 z)) (fun z5 => br_c (fun z => E0 (fun g => g.2.2.1.2 z)) (fun z6 => ?_))
  refine br_c (fun z => E0 (fun g => g.2.2.2.1 z)) (fun z7 => br_c (fun z => E0 (fun g => g.2.2.2.2 z)) (fun z8 => ?_))
  exact E 1 (iv_f1 ⟨⟨z1, z2⟩, ⟨z3, z4⟩, ⟨z5, z6⟩, ⟨z7, z8⟩⟩)
theorem iv_at {post : Int32 → Prop} {L : Nat} {xs : Nat → Int32} (hL : L ≤ 6) (k : Nat) (hk : k < 6) {p : Int32} (e : p = nI k) (H : ∀ r, post r) : wpL_cellAt post L xs () p :=
  pk_le L k (fun _ => H _) (fun z => ⟨pk_in k L z e, H _⟩) rfl e
theorem i_vc (xs : Nat → Int32) (L : Nat) (hL : L ≤ 6) : wpL_law (fun r => r = 1) L xs := by
  unfold wpL_law
  refine iv_at hL 0 (by omega) rfl (fun a => ?_)
  refine iv_at hL 1 (by omega) rfl (fun b => ?_)
  refine iv_at hL 2 (by omega) rfl (fun c => ?_)
  refine iv_at hL 3 (by omega) rfl (fun d => ?_)
  refine iv_at hL 4 (by omega) rfl (fun x => ?_)
  refine iv_at hL 5 (by omega) rfl (fun y => ?_)
  exact ⟨90, 1424, by omega, by omega, iv_lawOf a b c d x y rfl⟩
end
