section
theorem pk_sub {a b : Nat} (h : b ≤ a) : nI a - nI b = nI (a - b) := by
  obtain ⟨c, rfl⟩ : ∃ c, a = c + b := ⟨a - b, by omega⟩
  rw [← nI_add, Int32.add_sub_cancel, Nat.add_sub_cancel]
theorem pk_mul (a b : Nat) : nI a * nI b = nI (a * b) := (Int32.ofNat_mul a b).symm
theorem pk_div {a d : Nat} (ha : a < 2 ^ 31) (h0 : 0 < d) (hd : d < 2 ^ 31) : nI a / nI d = nI (a / d) := by
  apply Int32.toInt_inj.mp
  rw [lg_idiv_nonneg (by rw [nI_toInt ha]; omega) (by rw [nI_toInt hd]; omega), nI_toInt ha, nI_toInt hd, nI_toInt (Nat.lt_of_le_of_lt (Nat.div_le_self a d) ha)]
  first | rfl | exact (Int.natCast_ediv _ _).symm
theorem pk_rem {a d : Nat} (ha : a < 2 ^ 31) (h0 : 0 < d) (hd : d < 2 ^ 31) : nI a - nI a / nI d * nI d = nI (a % d) := by
  rw [pk_div ha h0 hd, pk_mul, pk_sub (Nat.div_mul_le_self a d)]
  exact congrArg nI (by have := Nat.div_add_mod' a d; omega)
theorem pk_tn {n : Nat} (h : n < 2 ^ 32) : (nI n).toBitVec.toNat = n := Nat.mod_eq_of_lt h
theorem pk_and (x : Int32) {m : Int32} (k : Nat) (hm : m.toBitVec.toNat = 2 ^ k - 1) : x &&& m = nI (x.toBitVec.toNat % 2 ^ k) := by
  apply Int32.toBitVec_inj.mp
  apply BitVec.eq_of_toNat_eq
  rw [Int32.toBitVec_and, BitVec.toNat_and, hm, Nat.and_two_pow_sub_one_eq_mod]
  show _ = (BitVec.ofNat 32 _).toNat
  rw [BitVec.toNat_ofNat]
  exact (Nat.mod_eq_of_lt (Nat.lt_of_le_of_lt (Nat.mod_le _ _) x.toBitVec.isLt)).symm
theorem pk_andN {n : Nat} (h : n < 2 ^ 32) {m : Int32} (k : Nat) (hm : m.toBitVec.toNat = 2 ^ k - 1) : nI n &&& m = nI (n % 2 ^ k) := by
  rw [pk_and _ k hm, pk_tn h]
theorem pk_andE (x : Int32) {m : Int32} (k : Nat) (hm : m.toBitVec.toNat = 2 ^ k - 1) : ∃ j : Nat, j < 2 ^ k ∧ x &&& m = nI j := ⟨_, Nat.mod_lt _ (Nat.two_pow_pos k), pk_and x k hm⟩
theorem pk_ushr (x s : Int32) (k : Nat) (hs : ((s.toUInt32 &&& Int32.toUInt32 31).toBitVec % 32).toNat = k) : (x.toUInt32 >>> (s.toUInt32 &&& Int32.toUInt32 31)).toInt32.toBitVec.toNat = x.toBitVec.toNat / 2 ^ k := by
  have e : (x.toUInt32 >>> (s.toUInt32 &&& Int32.toUInt32 31)).toInt32.toBitVec = x.toBitVec >>> k := by
    rw [← hs]
    exact UInt32.toBitVec_shiftRight _ _
  rw [e, BitVec.toNat_ushiftRight, Nat.shiftRight_eq_div_pow]
theorem pk_ushrN {n : Nat} (hn : n < 2 ^ 32) (s : Int32) (k : Nat) (hs : ((s.toUInt32 &&& Int32.toUInt32 31).toBitVec % 32).toNat = k) : ((nI n).toUInt32 >>> (s.toUInt32 &&& Int32.toUInt32 31)).toInt32 = nI (n / 2 ^ k) := by
  apply Int32.toBitVec_inj.mp
  apply BitVec.eq_of_toNat_eq
  rw [pk_ushr _ s k hs, pk_tn hn, pk_tn (Nat.lt_of_le_of_lt (Nat.div_le_self _ _) hn)]
theorem pk_nb (z : Int32) : narrow .byte (.int z.toInt8.toInt32) = .int z.toInt8.toInt32 := congrArg Value.int (by simp)
theorem pk_ns (z : Int32) : narrow .short (.int z.toInt16.toInt32) = .int z.toInt16.toInt32 := congrArg Value.int (by simp)
theorem pk_fb (r : Int32) : fits .byte (.int r.toInt8.toInt32) = true := by
  have ⟨a, b⟩ := lg_i2b_range r
  have h1 : (-128 : Int32).toInt = -128 := by decide
  have h2 : (127 : Int32).toInt = 127 := by decide
  simp only [fits, Bool.and_eq_true, decide_eq_true_eq, Int32.le_iff_toInt_le, h1, h2]
  omega
theorem pk_charN {q : Nat} (hq : q < 65536) : narrow .char (.int (nI q)) = .int (nI q) ∧ fits .char (.int (nI q)) = true := by
  constructor
  · have e : (nI q).toUInt32.toUInt16.toUInt32.toInt32 = nI q := by
      apply Int32.toBitVec_inj.mp
      apply BitVec.eq_of_toNat_eq
      show (nI q).toUInt32.toUInt16.toUInt32.toNat = q % 2 ^ 32
      rw [UInt16.toNat_toUInt32, UInt32.toNat_toUInt16, show (nI q).toUInt32.toNat = q % 2 ^ 32 from rfl]
      omega
    exact congrArg Value.int e
  · have a : (0 : Int32) ≤ nI q := nI_pos' (by omega)
    have b : nI q ≤ 65535 := nI_le (b := 65535) (by omega) (by decide)
    show (decide ((0 : Int32) ≤ nI q) && decide (nI q ≤ 65535)) = true
    rw [decide_eq_true a, decide_eq_true b]
    rfl
theorem pk_char (x : Int32) : (x.toUInt32 % 65536).toInt32 = nI (x.toBitVec.toNat % 65536) := by
  apply Int32.toBitVec_inj.mp
  apply BitVec.eq_of_toNat_eq
  rw [pk_tn (by omega)]
  show (x.toUInt32 % 65536).toNat = _
  rw [UInt32.toNat_mod]
  rfl
theorem pk_nc (x : Int32) : narrow .char (.int (x.toUInt32 % 65536).toInt32) = .int (x.toUInt32 % 65536).toInt32 := by
  rw [pk_char]
  exact (pk_charN (Nat.mod_lt _ (by decide))).1
theorem pk_vb (z : Int32) : vp_nar .byte z.toInt8.toInt32 = z.toInt8.toInt32 := by rw [vp_nar_byte]; simp
theorem pk_vs (z : Int32) : vp_nar .short z.toInt16.toInt32 = z.toInt16.toInt32 := by rw [vp_nar_short]; simp
theorem pk_vc (z : Int32) : vp_nar .char (z.toUInt32 % 65536).toInt32 = (z.toUInt32 % 65536).toInt32 := Value.int.inj (pk_nc z)
def sb_b (c : Nat) : Int32 := (nI c).toInt8.toInt32
theorem sb_byte : ∀ c, c < 256 → sb_b c &&& 255 = nI c ∧ ((nI c).toUInt32 % 65536).toInt32 = nI c ∧ nI c ≤ 255 := by decide +kernel
theorem nx_xor (a b : Nat) : nI a ^^^ nI b = nI (a ^^^ b) := by
  apply Int32.toBitVec_inj.1
  show BitVec.ofNat 32 a ^^^ BitVec.ofNat 32 b = BitVec.ofNat 32 (a ^^^ b)
  apply BitVec.eq_of_getLsbD_eq
  intro i hi
  simp [hi]
theorem wb_of32 (x : Int32) : ∃ n, n < 2 ^ 32 ∧ x = nI n := ⟨x.toBitVec.toNat, x.toBitVec.isLt, Int32.toBitVec_inj.mp (by show _ = BitVec.ofNat 32 _; simp)⟩
end
section
/-! one table t of numbers below 256 for both sides: X keeps each as a byte (sb_b), Y as itself (nI) -/
def py_put (t : Nat → Nat) (k x : Nat) : Nat → Nat := fun j => if j = k then x else t j
theorem py_putX (t : Nat → Nat) (k x : Nat) : upd (fun j => sb_b (t j)) k (sb_b x) = fun j => sb_b (py_put t k x j) := by
  funext j
  unfold upd py_put
  by_cases h : j = k
  · rw [if_pos h, if_pos h]
  · rw [if_neg h, if_neg h]
theorem py_putY (t : Nat → Nat) (k x : Nat) : upd (fun j => nI (t j)) k (nI x) = fun j => nI (py_put t k x j) := by
  funext j
  unfold upd py_put
  by_cases h : j = k
  · rw [if_pos h, if_pos h]
  · rw [if_neg h, if_neg h]
theorem py_put_lt {t : Nat → Nat} {k x : Nat} (ht : ∀ j, t j < 256) (hx : x < 256) : ∀ j, py_put t k x j < 256 := by
  intro j
  unfold py_put
  by_cases h : j = k
  · rw [if_pos h]; exact hx
  · rw [if_neg h]; exact ht j
theorem py_i16 : ∀ c, c < 256 → (nI c).toInt16.toInt32 = nI c := by decide +kernel
theorem py_vb (c : Nat) : vp_nar .byte (sb_b c) = sb_b c := pk_vb (nI c)
theorem py_vs {c : Nat} (h : c < 256) : vp_nar .short (nI c).toInt16.toInt32 = nI c := by
  rw [pk_vs]
  exact py_i16 c h
theorem py_vc {c : Nat} (h : c < 256) : vp_nar .char (nI c) = nI c := by
  have p := pk_vc (nI c)
  rw [(sb_byte c h).2.1] at p
  exact p
theorem py_xor {a b : Nat} (ha : a < 256) (hb : b < 256) : a ^^^ b < 256 := Nat.xor_lt_two_pow (n := 8) ha hb
theorem py_m {n : Nat} (h : n < 256) : nI n &&& 255 = nI n := by
  rw [pk_andN (by omega) 8 (by decide), Nat.mod_eq_of_lt (show n < 2 ^ 8 from h)]
theorem py_bm {c : Nat} (h : c < 256) : sb_b c &&& 255 = nI c := (sb_byte c h).1
theorem py_256 : (256 : Int32) = nI 256 := by decide +kernel
theorem py_4 : (4 : Int32) = nI 4 := by decide +kernel
/-- X's index: masked, but within already -/
theorem py_ix {a b : Nat} (ha : a < 256) (hb : b < 256) : (nI a ^^^ nI b) &&& 255 = nI (a ^^^ b) := by
  rw [nx_xor, py_m (py_xor ha hb)]
theorem py_j (x : Int32) {i : Nat} (hi : i < 256) : ∃ j : Nat, j ≤ i ∧ ((x.toUInt32 >>> ((16 : Int32).toUInt32 &&& Int32.toUInt32 31)).toInt32) - ((x.toUInt32 >>> ((16 : Int32).toUInt32 &&& Int32.toUInt32 31)).toInt32) / (nI i + 1) * (nI i + 1) = nI j := by
  obtain ⟨n, hn, rfl⟩ := wb_of32 x
  rw [pk_ushrN hn 16 16 (by decide), nI_1, pk_rem (by omega) (by omega) (by omega)]
  exact ⟨_, Nat.le_of_lt_succ (Nat.mod_lt _ (Nat.succ_pos i)), rfl⟩
/-! the four stores of a turn of the constructors' loops -/
theorem py_x1 {t : Nat → Nat} {i j : Nat} (hi : i < 256) (hj : j < 256) : upd (fun k => sb_b (t k)) (nI i).toNatClampNeg (vp_nar .byte (sb_b (t (nI j).toNatClampNeg))) = fun k => sb_b (py_put t i (t j) k) := by
  rw [nI_clamp (n := i) (by omega), nI_clamp (n := j) (by omega), py_vb]
  exact py_putX t i (t j)
theorem py_x2 {t : Nat → Nat} {i j : Nat} (hj : j < 256) : upd (fun k => sb_b (t k)) (nI j).toNatClampNeg (vp_nar .byte (nI i).toInt8.toInt32) = fun k => sb_b (py_put t j i k) := by
  rw [nI_clamp (n := j) (by omega), pk_vb]
  exact py_putX t j i
theorem py_y1 {t : Nat → Nat} {i j : Nat} (ht : ∀ k, t k < 256) (hi : i < 256) (hj : j < 256) : upd (fun k => nI (t k)) (nI i).toNatClampNeg (vp_nar .char (nI (t (nI j).toNatClampNeg))) = fun k => nI (py_put t i (t j) k) := by
  rw [nI_clamp (n := i) (by omega), nI_clamp (n := j) (by omega), py_vc (ht j)]
  exact py_putY t i (t j)
theorem py_y2 {t : Nat → Nat} {i j : Nat} (hi : i < 256) (hj : j < 256) : upd (fun k => nI (t k)) (nI j).toNatClampNeg (vp_nar .char ((nI i).toUInt32 % 65536).toInt32) = fun k => nI (py_put t j i k) := by
  rw [nI_clamp (n := j) (by omega), (sb_byte i hi).2.1, py_vc hi]
  exact py_putY t j i
/-- both constructors' loops, turn by turn: one table -/
theorem py_init (f g : Nat → Int32) : ∀ (d i : Nat) (x : Int32) (t : Nat → Nat), i + d = 256 → (∀ k, t k < 256) → ∃ t' : Nat → Nat, (∀ k, t' k < 256) ∧ (∀ post : SX → Prop, post (0, 0, (fun k => sb_b (t' k)), f) → wX_init_24 post 0 0 (d + 1) x (nI i) (fun k => sb_b (t k)) f) ∧ (∀ post : SY → Prop, post (0, 0, (fun k => nI (t' k)), g) → wY_init_24 post 0 0 (d + 1) x (nI i) (fun k => nI (t k)) g) := by
  intro d
  induction d with
  | zero =>
    intro i x t hi ht
    have h : (256 : Int32) ≤ nI i := by rw [py_256]; exact nI_le (by omega) (by omega)
    exact ⟨t, ht, fun post hp => br_t h hp, fun post hp => br_t h hp⟩
  | succ d ih =>
    intro i x t hi ht
    have hi' : i < 256 := by omega
    have h : ¬ (256 : Int32) ≤ nI i := by rw [py_256]; exact nI_ge (by omega) (by omega)
    have h0 : ¬ nI i + 1 = 0 := by rw [nI_1]; exact nI_ne0 (by omega) (by omega)
    have hv : vp_in (nI i) 256 := vp_in_nI hi' (by omega)
    obtain ⟨j, hj, ej⟩ := py_j (x * 1103515245 + 12345) hi'
    have hj' : j < 256 := by omega
    have hw : vp_in (nI j) 256 := vp_in_nI hj' (by omega)
    have h1 : ∀ k, py_put t i (t j) k < 256 := py_put_lt ht (ht j)
    obtain ⟨t', ht', hX, hY⟩ := ih (i + 1) (x * 1103515245 + 12345) (py_put (py_put t i (t j)) j i) (by omega) (py_put_lt h1 hi')
    refine ⟨t', ht', fun post hp => br_f h (nm_e ⟨h0, nm_r ej ⟨hw, hv, ?_⟩⟩), fun post hp => br_f h (nm_e ⟨h0, nm_r ej ⟨hw, hv, ?_⟩⟩)⟩
    · exact nm_r (py_x1 hi' hj') ⟨hw, nm_r (py_x2 hj') (nm_r (nI_1 i) (hX post hp))⟩
    · exact nm_r (py_y1 ht hi' hj') ⟨hw, nm_r (py_y2 hi' hj') (nm_r (nI_1 i) (hY post hp))⟩
/-! feed: a general post -/
theorem py_feedX {post : Int32 → SX → Prop} {t q : Nat → Nat} {s a b : Nat} {c p : Int32} (hs : s < 256) (ht : ∀ k, t k < 256) (ha : a < 256) (hb : b < 4) (ea : p &&& 255 = nI a) (eb : c &&& 3 = nI b) (h : post (nI (t (s ^^^ a))) (sb_b (t (s ^^^ a)), c + 1, (fun k => sb_b (t k)), (fun k => sb_b (py_put q b a k)))) : wpX_feed post (sb_b s, c, (fun k => sb_b (t k)), (fun k => sb_b (q k))) p := by
  have hx := py_xor hs ha
  intro x ex
  rw [ea] at ex
  subst ex
  refine ⟨by rw [eb]; exact vp_in_nI hb (by omega), ?_⟩
  intro ak eak
  rw [eb, nI_clamp (n := b) (by omega), pk_vb] at eak
  have eak' : ak = fun k => sb_b (py_put q b a k) := eak.trans (py_putX q b a)
  subst eak'
  intro c' ec
  subst ec
  intro y ey
  rw [py_bm hs, py_ix hs ha] at ey
  subst ey
  refine ⟨vp_in_nI hx (by omega), ?_⟩
  intro z ez
  have ez' : z = sb_b (t (s ^^^ a)) := by
    rw [ez, nI_clamp (n := s ^^^ a) (by omega)]
  subst ez'
  refine ⟨pk_nb (nI (t (s ^^^ a))), pk_fb (nI (t (s ^^^ a))), ?_⟩
  rw [py_bm (ht _)]
  exact h
theorem py_feedY {post : Int32 → SY → Prop} {t q : Nat → Nat} {s a b : Nat} {c p : Int32} (hs : s < 256) (ha : a < 256) (hb : b < 4) (ea : p &&& 255 = nI a) (eb : c &&& 3 = nI b) (h : post (nI (t (s ^^^ a))) (nI (t (s ^^^ a)), c + 1, (fun k => nI (t k)), (fun k => nI (py_put q b a k)))) : wpY_feed post (nI s, c, (fun k => nI (t k)), (fun k => nI (q k))) p := by
  have hx := py_xor hs ha
  intro x ex
  rw [ea] at ex
  subst ex
  intro c' ec
  subst ec
  refine ⟨by rw [eb]; exact vp_in_nI hb (by omega), ?_⟩
  intro ak eak
  rw [eb, nI_clamp (n := b) (by omega), py_vs ha] at eak
  have eak' : ak = fun k => nI (py_put q b a k) := eak.trans (py_putY q b a)
  subst eak'
  refine ⟨by rw [nx_xor]; exact vp_in_nI hx (by omega), ?_⟩
  intro z ez
  have ez' : z = nI (t (s ^^^ a)) := by
    rw [ez, nx_xor, nI_clamp (n := s ^^^ a) (by omega)]
  subst ez'
  exact h
/-! wide: four passes of one number -/
def py_pass (t q : Nat → Nat) (h : Nat) : Nat := t (t (t (t (h ^^^ q 0) ^^^ q 1) ^^^ q 2) ^^^ q 3)
theorem py_ws {post : Int32 → Prop} {f c : Int32} {t q : Nat → Nat} (ht : ∀ k, t k < 256) (hq : ∀ k, q k < 256) {n k lo hi : Nat} (hk : k < 4) (hl : lo < 256) (hh : hi < 256) (h : wX_wide_17 post f c (fun k => sb_b (t k)) (fun k => sb_b (q k)) n (nI (t (lo ^^^ q k))) (nI (t (hi ^^^ q k))) (nI (k + 1))) : wX_wide_17 post f c (fun k => sb_b (t k)) (fun k => sb_b (q k)) (n + 1) (nI lo) (nI hi) (nI k) := by
  have h4 : ¬ (4 : Int32) ≤ nI k := by rw [py_4]; exact nI_ge hk (by omega)
  have e : sb_b (q (nI k).toNatClampNeg) &&& 255 = nI (q k) := by rw [nI_clamp (n := k) (by omega), py_bm (hq k)]
  have hx := py_xor hl (hq k)
  have hy := py_xor hh (hq k)
  have ex := py_ix hl (hq k)
  have ey := py_ix hh (hq k)
  have e1 : sb_b (t ((nI lo ^^^ nI (q k)) &&& 255).toNatClampNeg) &&& 255 = nI (t (lo ^^^ q k)) := by rw [ex, nI_clamp (n := lo ^^^ q k) (by omega), py_bm (ht _)]
  have e2 : sb_b (t ((nI hi ^^^ nI (q k)) &&& 255).toNatClampNeg) &&& 255 = nI (t (hi ^^^ q k)) := by rw [ey, nI_clamp (n := hi ^^^ q k) (by omega), py_bm (ht _)]
  have i1 : vp_in ((nI lo ^^^ nI (q k)) &&& 255) 256 := by rw [ex]; exact vp_in_nI hx (by omega)
  have i2 : vp_in ((nI hi ^^^ nI (q k)) &&& 255) 256 := by rw [ey]; exact vp_in_nI hy (by omega)
  exact br_f h4 ⟨vp_in_nI hk (by omega), nm_r e ⟨i1, nm_r e1 ⟨i2, nm_r e2 (nm_r (nI_1 k) h)⟩⟩⟩
theorem py_wideX {post : Int32 → Prop} {f c p : Int32} {t q : Nat → Nat} (ht : ∀ k, t k < 256) (hq : ∀ k, q k < 256) {lo hi : Nat} (hl : lo < 256) (hh : hi < 256) (el : p &&& 255 = nI lo) (eh : (p + 1) &&& 255 = nI hi) (h : post ((((nI (py_pass t q hi) * 256) + nI (py_pass t q lo)).toUInt32 % 65536).toInt32)) : wpX_wide post (f, c, (fun k => sb_b (t k)), (fun k => sb_b (q k))) p := by
  intro x ex
  rw [el] at ex
  subst ex
  intro y ey
  rw [eh] at ey
  subst ey
  refine ⟨5, ?_⟩
  have h4 : (4 : Int32) ≤ nI 4 := by rw [py_4]; exact nI_le (by omega) (by omega)
  have w0 : wX_wide_17 post f c (fun k => sb_b (t k)) (fun k => sb_b (q k)) 5 (nI lo) (nI hi) (nI 0) :=
    py_ws ht hq (by omega) hl hh (py_ws ht hq (by omega) (ht _) (ht _) (py_ws ht hq (by omega) (ht _) (ht _) (py_ws ht hq (by omega) (ht _) (ht _) (br_t h4 ⟨pk_nc _, h⟩))))
  exact w0
theorem py_passY {post : Int32 → Prop} {f c : Int32} {t q : Nat → Nat} (ht : ∀ k, t k < 256) (hq : ∀ k, q k < 256) {a : Nat} (ha : a < 256) (h : post (nI (py_pass t q a))) : wpY_pass post (f, c, (fun k => nI (t k)), (fun k => nI (q k))) (nI a) := by
  have I : ∀ a b : Nat, a < 256 → b < 256 → vp_in (nI a ^^^ nI b) 256 := fun a b ha hb => by rw [nx_xor]; exact vp_in_nI (py_xor ha hb) (by omega)
  have E : ∀ a b : Nat, a < 256 → b < 256 → nI (t (nI a ^^^ nI b).toNatClampNeg) = nI (t (a ^^^ b)) := fun a b ha hb => by
    have := py_xor ha hb
    rw [nx_xor, nI_clamp (n := a ^^^ b) (by omega)]
  exact ⟨I _ _ ha (hq 0), nm_r (E _ _ ha (hq 0)) ⟨I _ _ (ht _) (hq 1), nm_r (E _ _ (ht _) (hq 1)) ⟨I _ _ (ht _) (hq 2), nm_r (E _ _ (ht _) (hq 2)) ⟨I _ _ (ht _) (hq 3), nm_r (E _ _ (ht _) (hq 3)) h⟩⟩⟩⟩
theorem py_wideY {post : Int32 → Prop} {f c p : Int32} {t q : Nat → Nat} (ht : ∀ k, t k < 256) (hq : ∀ k, q k < 256) {lo hi : Nat} (hl : lo < 256) (hh : hi < 256) (el : p &&& 255 = nI lo) (eh : (p + 1) &&& 255 = nI hi) (h : post ((((nI (py_pass t q hi) * 256) + nI (py_pass t q lo)).toUInt32 % 65536).toInt32)) : wpY_wide post (f, c, (fun k => nI (t k)), (fun k => nI (q k))) p := by
  unfold wpY_wide
  dsimp only
  rw [el, eh]
  exact py_passY ht hq hl (py_passY ht hq hh ⟨pk_nc _, h⟩)
end
section
/-- one table t, one row q of kept values, one state s, all below 256, and one count c: X keeps them as bytes, Y as they are -/
def i_Rel (k : Nat) (u : SX) (v : SY) : Prop := ∃ (t q : Nat → Nat) (s : Nat) (c : Int32), (∀ j, t j < 256) ∧ (∀ j, q j < 256) ∧ s < 256 ∧ u = (sb_b s, c, (fun j => sb_b (t j)), (fun j => sb_b (q j))) ∧ v = (nI s, c, (fun j => nI (t j)), (fun j => nI (q j)))
theorem i_up {k : Nat} {u : SX} {v : SY} (h : i_Rel k u v) : i_Rel (k + 2) u v := h
theorem py_b0 : sb_b 0 = 0 := by decide +kernel
theorem i_vc0 (k0 : Int32) : wpX_init (fun u => wpY_init (fun v => i_Rel 1 u v) k0) k0 := by
  obtain ⟨t, ht, hX, hY⟩ := py_init (fun _ => 0) (fun _ => 0) 256 0 k0 (fun _ => 0) rfl (fun _ => by decide)
  rw [py_b0] at hX
  rw [nI_0] at hX hY
  refine ⟨257, hX _ ⟨257, hY _ ⟨t, fun _ => 0, 0, 0, ht, fun _ => Nat.zero_lt_succ 255, Nat.zero_lt_succ 255, ?_, ?_⟩⟩⟩
  · dsimp only; rw [py_b0]
  · dsimp only; rw [nI_0]
theorem i_vc_feed {k : Nat} {u : SX} {v : SY} (I : i_Rel k u v) (hk : k + 2 ≤ 1025) (v1 : Int32) : wpX_feed (fun r u' => wpY_feed (fun r' v' => r' = r ∧ i_Rel (k + 2) u' v') v v1) u v1 := by
  obtain ⟨t, q, s, c, ht, hq, hs, rfl, rfl⟩ := I
  obtain ⟨a, ha, ea⟩ := pk_andE v1 (m := 255) 8 (by decide)
  obtain ⟨b, hb, eb⟩ := pk_andE c (m := 3) 2 (by decide)
  exact py_feedX hs ht ha hb ea eb (py_feedY hs ha hb ea eb ⟨rfl, t, py_put q b a, t (s ^^^ a), c + 1, ht, py_put_lt hq ha, ht _, rfl, rfl⟩)
theorem i_vc_value {k : Nat} {u : SX} {v : SY} (I : i_Rel k u v) (hk : k + 2 ≤ 1025) : wpX_value (fun r => wpY_value (fun r' => r' = r ∧ i_Rel (k + 2) u v) v) u := by
  have J := I
  obtain ⟨t, q, s, c, ht, hq, hs, rfl, rfl⟩ := I
  exact ⟨(py_bm hs).symm, J⟩
theorem i_vc_wide {k : Nat} {u : SX} {v : SY} (I : i_Rel k u v) (hk : k + 2 ≤ 1025) (v1 : Int32) : wpX_wide (fun r => wpY_wide (fun r' => r' = r ∧ i_Rel (k + 2) u v) v v1) u v1 := by
  have J := I
  obtain ⟨t, q, s, c, ht, hq, hs, rfl, rfl⟩ := I
  obtain ⟨lo, hl, el⟩ := pk_andE v1 (m := 255) 8 (by decide)
  obtain ⟨hi, hh, eh⟩ := pk_andE (v1 + 1) (m := 255) 8 (by decide)
  exact py_wideX ht hq hl hh el eh (py_wideY ht hq hl hh el eh ⟨rfl, J⟩)
end
