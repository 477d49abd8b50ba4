section
/-! rows of the kit to paste (kit/rows): pk_ from PURE-ROWS, nx_ from BITS -/
theorem pk_us {f : Nat → Int32} {k : Nat} {x : Int32} : upd f k x k = x := if_pos rfl
theorem pk_un {f : Nat → Int32} {k j : Nat} {x : Int32} (h : j ≠ k) : upd f k x j = f j := if_neg h
theorem pk_sub {a b : Nat} (h : b ≤ a) : nI a - nI b = nI (a - b) := by
  obtain ⟨c, rfl⟩ : ∃ c, a = c + b := ⟨a - b, by omega⟩
  rw [← nI_add, Int32.add_sub_cancel, Nat.add_sub_cancel]
theorem pk_mul (a b : Nat) : nI a * nI b = nI (a * b) := (Int32.ofNat_mul a b).symm
theorem pk_div {a d : Nat} (ha : a < 2 ^ 31) (h0 : 0 < d) (hd : d < 2 ^ 31) : nI a / nI d = nI (a / d) := by
  apply Int32.toInt_inj.mp
  rw [lg_idiv_nonneg (by rw [nI_toInt ha]; omega) (by rw [nI_toInt hd]; omega), nI_toInt ha, nI_toInt hd, nI_toInt (Nat.lt_of_le_of_lt (Nat.div_le_self a d) ha)]
  first | rfl | exact (Int.natCast_ediv _ _).symm
theorem pk_rem {a d : Nat} (ha : a < 2 ^ 31) (h0 : 0 < d) (hd : d < 2 ^ 31) : nI a - nI a / nI d * nI d = nI (a % d) := by
  rw [pk_div ha h0 hd, pk_mul, pk_sub (Nat.div_mul_le_self a d)]
  exact congrArg nI (by have := Nat.div_add_mod' a d; omega)
theorem pk_le {x y : Int32} {A B : Prop} (a b : Nat) (f : a ≤ b → A) (g : b < a → B) (hx : x = nI a := by rfl) (hy : y = nI b := by rfl) (ha : a < 2 ^ 31 := by omega) (hb : b < 2 ^ 31 := by omega) : (x ≤ y → A) ∧ (¬ x ≤ y → B) := by
  subst hx hy
  rw [nI_leI ha hb]
  exact ⟨f, fun z => g (by omega)⟩
theorem pk_lt {x y : Int32} {A B : Prop} (a b : Nat) (f : a < b → A) (g : b ≤ a → B) (hx : x = nI a := by rfl) (hy : y = nI b := by rfl) (ha : a < 2 ^ 31 := by omega) (hb : b < 2 ^ 31 := by omega) : (x < y → A) ∧ (¬ x < y → B) := by
  subst hx hy
  rw [nI_ltI ha hb]
  exact ⟨f, fun z => g (by omega)⟩
theorem pk_eq {x y : Int32} {A B : Prop} (a b : Nat) (f : a = b → A) (g : a ≠ b → B) (hx : x = nI a := by rfl) (hy : y = nI b := by rfl) (ha : a < 2 ^ 31 := by omega) (hb : b < 2 ^ 31 := by omega) : (x = y → A) ∧ (¬ x = y → B) := by
  subst hx hy
  rw [nI_eq ha hb]
  exact ⟨f, g⟩
theorem pk_tn {n : Nat} (h : n < 2 ^ 32) : (nI n).toBitVec.toNat = n := Nat.mod_eq_of_lt h
theorem pk_and (x : Int32) {m : Int32} (k : Nat) (hm : m.toBitVec.toNat = 2 ^ k - 1) : x &&& m = nI (x.toBitVec.toNat % 2 ^ k) := by
  apply Int32.toBitVec_inj.mp
  apply BitVec.eq_of_toNat_eq
  rw [Int32.toBitVec_and, BitVec.toNat_and, hm, Nat.and_two_pow_sub_one_eq_mod]
  show _ = (BitVec.ofNat 32 _).toNat
  rw [BitVec.toNat_ofNat]
  exact (Nat.mod_eq_of_lt (Nat.lt_of_le_of_lt (Nat.mod_le _ _) x.toBitVec.isLt)).symm
theorem pk_andN {n : Nat} (h : n < 2 ^ 32) {m : Int32} (k : Nat) (hm : m.toBitVec.toNat = 2 ^ k - 1) : nI n &&& m = nI (n % 2 ^ k) := by
  rw [pk_and _ k hm, pk_tn h]
theorem pk_andE (x : Int32) {m : Int32} (k : Nat) (hm : m.toBitVec.toNat = 2 ^ k - 1) : ∃ j : Nat, j < 2 ^ k ∧ x &&& m = nI j := ⟨_, Nat.mod_lt _ (Nat.two_pow_pos k), pk_and x k hm⟩
theorem nx_and (a b : Nat) : nI a &&& nI b = nI (a &&& b) := by
  apply Int32.toBitVec_inj.1
  show BitVec.ofNat 32 a &&& BitVec.ofNat 32 b = BitVec.ofNat 32 (a &&& b)
  apply BitVec.eq_of_getLsbD_eq
  intro i hi
  simp [hi]
theorem nx_xor (a b : Nat) : nI a ^^^ nI b = nI (a ^^^ b) := by
  apply Int32.toBitVec_inj.1
  show BitVec.ofNat 32 a ^^^ BitVec.ofNat 32 b = BitVec.ofNat 32 (a ^^^ b)
  apply BitVec.eq_of_getLsbD_eq
  intro i hi
  simp [hi]
end
section
/-! the plain law: bytes, flags, sums, in naturals -/
def al_z (r : Nat) : Nat := if r = 0 then 1 else 0
def al_fl (c z m o : Nat) : Nat := c + 2 * z + 4 * m + 8 * o
def al_ov (a m c : Nat) : Nat := if a / 128 = m / 128 ∧ a / 128 ≠ (a + m + c) % 256 / 128 then 1 else 0
theorem al_z2 (r : Nat) : al_z r < 2 := by unfold al_z; split <;> omega
theorem al_ov2 (a m c : Nat) : al_ov a m c < 2 := by unfold al_ov; split <;> omega
theorem al_m1 : ∀ c, c < 2 → ∀ z, z < 2 → ∀ m, m < 2 → ∀ o, o < 2 → nI (al_fl c z m o) &&& 1 = nI c := by decide +kernel
theorem al_m8 : ∀ c, c < 2 → ∀ z, z < 2 → ∀ m, m < 2 → ∀ o, o < 2 → nI (al_fl c z m o) &&& 8 = nI (8 * o) := by decide +kernel
theorem al_or0 : ∀ c, c < 2 → ∀ o, o < 2 → nI c ||| nI (8 * o) = nI (al_fl c 0 0 o) := by decide +kernel
theorem al_or2 : ∀ c, c < 2 → ∀ o, o < 2 → nI (al_fl c 0 0 o) ||| 2 = nI (al_fl c 1 0 o) := by decide +kernel
theorem al_or4 : ∀ c, c < 2 → ∀ o, o < 2 → nI (al_fl c 0 0 o) ||| 4 = nI (al_fl c 0 1 o) := by decide +kernel
theorem al_sum (c z m o : Nat) : nI c + 2 * nI z + 4 * nI m + 8 * nI o = nI (al_fl c z m o) := by
  show nI c + nI 2 * nI z + nI 4 * nI m + nI 8 * nI o = nI (al_fl c z m o)
  rw [pk_mul, pk_mul, pk_mul, nI_add, nI_add, nI_add]
  rfl
theorem al_mask {t : Nat} (h : t < 2 ^ 32) : nI t &&& 255 = nI (t % 256) := pk_andN h 8 (by decide)
theorem al_t7 (x : Nat) : x &&& 128 = 128 * (x / 128 % 2) := by
  have h1 : (x &&& 128) / 2 ^ 7 = x / 2 ^ 7 &&& 128 / 2 ^ 7 := Nat.and_div_two_pow
  have h2 : (x &&& 128) % 2 ^ 7 = (x % 2 ^ 7) &&& (128 % 2 ^ 7) := Nat.and_mod_two_pow
  rw [show 128 / 2 ^ 7 = 1 from rfl, Nat.and_one_is_mod] at h1
  rw [show 128 % 2 ^ 7 = 0 from rfl, Nat.and_zero] at h2
  generalize x &&& 128 = y at h1 h2
  omega
theorem al_xp : ∀ p, p < 2 → ∀ q, q < 2 → (128 * ((p ^^^ q) % 2) = 0 ↔ p = q) := by decide
theorem al_x128 {a m : Nat} (ha : a < 256) (hm : m < 256) : ((nI a ^^^ nI m) &&& 128) = 0 ↔ a / 128 = m / 128 := by
  have h1 : (a ^^^ m) / 2 ^ 7 = a / 2 ^ 7 ^^^ m / 2 ^ 7 := Nat.xor_div_two_pow
  have h2 : (a ^^^ m) / 128 = a / 128 ^^^ m / 128 := h1
  have h3 : 128 * ((a / 128 ^^^ m / 128) % 2) < 2 ^ 31 := by
    generalize a / 128 ^^^ m / 128 = y
    omega
  show (nI a ^^^ nI m) &&& nI 128 = nI 0 ↔ _
  rw [nx_xor, nx_and, al_t7, h2, nI_eq h3 (by decide)]
  exact al_xp _ (by omega) _ (by omega)
theorem al_a128 {a : Nat} (ha : a < 256) : (nI a &&& 128) = 0 ↔ a / 128 = 0 := by
  show nI a &&& nI 128 = nI 0 ↔ _
  rw [nx_and, al_t7, nI_eq (by omega) (by decide)]
  omega
theorem al_and (A B : Nat) : A &&& B = A % 2 * (B % 2) + 2 * (A / 2 &&& B / 2) := by
  have h1 : (A &&& B) / 2 = A / 2 &&& B / 2 := Nat.and_div_two
  have h2 : (A &&& B) % 2 = 1 ↔ A % 2 = 1 ∧ B % 2 = 1 := Nat.and_mod_two_eq_one
  rw [← h1]
  generalize A &&& B = y at h1 h2
  have hA : A % 2 = 0 ∨ A % 2 = 1 := by omega
  have hB : B % 2 = 0 ∨ B % 2 = 1 := by omega
  rcases hA with hA | hA <;> rcases hB with hB | hB <;> rw [hA, hB] at h2 ⊢ <;> omega
theorem al_tm (x : Int) : (x.tmod 256 + 256).tmod 256 = x % 256 ∧ -256 < x.tmod 256 ∧ x.tmod 256 < 256 := by
  rcases Int.lt_or_le x 0 with h | h
  · have e : x.tmod 256 = -((-x) % 256) := by
      rw [← Int.tmod_eq_emod_of_nonneg (a := -x) (by omega), Int.neg_tmod, Int.neg_neg]
    rw [e, Int.tmod_eq_emod_of_nonneg (by omega)]
    omega
  · rw [Int.tmod_eq_emod_of_nonneg h, Int.tmod_eq_emod_of_nonneg (by omega)]
    omega
theorem al_ld (v : Int32) : ((v - v / 256 * 256) + 256) - ((v - v / 256 * 256) + 256) / 256 * 256 = v &&& 255 := by
  apply Int32.toInt_inj.mp
  have h256 : (256 : Int32).toInt = 256 := by decide
  have e1 : (v - v / 256 * 256).toInt = v.toInt.tmod 256 := by rw [rem_toInt, h256]
  have ⟨t1, t2, t3⟩ := al_tm v.toInt
  rw [rem_toInt, Jvm.Kit.i32_mask v 255 (k := 8) (by decide) (by decide), Jvm.Kit.i32_add (by rw [e1, h256]; omega) (by rw [e1, h256]; omega), e1, h256, t1]
  rfl
end
section
/-! X's walks: op, each kind against the naturals -/
section
variable {post : Int32 → SX → Prop} {f_n f_fl : Int32} {g : Nat → Int32}
theorem al_x220 {d c o r : Nat} (hd : d < 16) (hc : c < 2) (ho : o < 2) (hr : r < 256) (K : post 0 (f_n, nI (al_fl c (al_z r) (r / 128) o), upd g d (nI r))) : wX_op_220 post (nI d) (nI c) (nI (8 * o)) (nI r) f_n f_fl g := by
  unfold wX_op_220
  rw [nI_clamp (n := d) (by omega)]
  refine ⟨vp_in_nI hd (by decide), nm_e (nm_r (al_or0 c hc o ho) ?_)⟩
  refine pk_eq r 0 (fun h => nm_r (al_or2 c hc o ho) ?_) (fun h => ?_)
  · subst h
    unfold wX_op_246
    exact pk_lt 0 128 (fun _ => K) (fun h => absurd h (by decide))
  · have hz : al_z r = 0 := if_neg h
    rw [hz] at K
    unfold wX_op_246
    refine pk_lt r 128 (fun h1 => ?_) (fun h1 => nm_r (al_or4 c hc o ho) ?_)
    · have e : r / 128 = 0 := by omega
      rw [e] at K
      exact K
    · have e : r / 128 = 1 := by omega
      rw [e] at K
      exact K
theorem al_x137 {d a m k r : Nat} (hd : d < 16) (ha : a < 256) (hm : m < 256) (hk : k < 2) (hr : r < 256) (K : post 0 (f_n, nI (al_fl k (al_z r) (r / 128) (if a / 128 = m / 128 ∧ a / 128 ≠ r / 128 then 1 else 0)), upd g d (nI r))) : wX_op_137 post (nI d) (nI a) (nI r) (nI m) (nI k) f_n f_fl g := by
  unfold wX_op_137
  by_cases h1 : a / 128 = m / 128
  · refine br_t ((al_x128 ha hm).mpr h1) ?_
    by_cases h2 : a / 128 = r / 128
    · refine br_t ((al_x128 ha hr).mpr h2) ?_
      rw [if_neg (fun h => h.2 h2)] at K
      exact al_x220 (o := 0) hd hk (by decide) hr K
    · refine br_f (mt (al_x128 ha hr).mp h2) ?_
      rw [if_pos ⟨h1, h2⟩] at K
      exact al_x220 (o := 1) hd hk (by decide) hr K
  · refine br_f (mt (al_x128 ha hm).mp h1) ?_
    rw [if_neg (fun h => h1 h.1)] at K
    exact al_x220 (o := 0) hd hk (by decide) hr K
theorem al_x106 {d a m c : Nat} (hd : d < 16) (ha : a < 256) (hm : m < 256) (hc : c < 2) (K : post 0 (f_n, nI (al_fl ((a + m + c) / 256) (al_z ((a + m + c) % 256)) ((a + m + c) % 256 / 128) (al_ov a m c)), upd g d (nI ((a + m + c) % 256)))) : wX_op_106 post (nI d) (nI a) (nI c) (nI m) f_n f_fl g := by
  unfold wX_op_106
  refine nm_r (e' := nI (a + m + c)) (by rw [nI_add, nI_add]) (nm_r (e' := nI ((a + m + c) % 256)) (al_mask (by omega)) ?_)
  refine pk_le (a + m + c) 255 (fun h => ?_) (fun h => ?_)
  · have e : (a + m + c) / 256 = 0 := by omega
    rw [e] at K
    exact al_x137 (k := 0) hd ha hm (by decide) (by omega) K
  · have e : (a + m + c) / 256 = 1 := by omega
    rw [e] at K
    exact al_x137 (k := 1) hd ha hm (by decide) (by omega) K
theorem al_x21 {x1 x6 x7 : Int32} {d s n a b : Nat} (hd : d < n) (hs : s < n) (hn : n ≤ 16) (ga : g d = nI a) (gb : g s = nI b) (h6 : f_fl &&& 1 = x6) (h7 : f_fl &&& 8 = x7)
    (K : (x1 = 0 → wX_op_89 post x1 (nI d) (nI a) (nI b) x6 (nI n) f_fl g) ∧ (¬ x1 = 0 → (x1 = 1 → wX_op_89 post x1 (nI d) (nI a) (nI b) x6 (nI n) f_fl g) ∧ (¬ x1 = 1 → (x1 = 2 → ∀ x8 : Int32, x8 = nI a &&& nI b → wX_op_220 post (nI d) x6 x7 x8 (nI n) f_fl g) ∧ (¬ x1 = 2 → ∀ x8 : Int32, x8 = ((2 * nI a) + x6) &&& 255 → ((nI a &&& 128) = 0 → wX_op_218 post (nI d) x7 x8 0 (nI n) f_fl g) ∧ (¬ (nI a &&& 128) = 0 → wX_op_218 post (nI d) x7 x8 1 (nI n) f_fl g))))) : wX_op_21 post x1 (nI d) (nI s) (nI n) f_fl g := by
  have jd : vp_in (nI d) 16 := vp_in_nI (by omega) (by decide)
  have js : vp_in (nI s) 16 := vp_in_nI (by omega) (by decide)
  have ea : g (nI d).toNatClampNeg = nI a := by rw [nI_clamp (by omega)]; exact ga
  have eb : g (nI s).toNatClampNeg = nI b := by rw [nI_clamp (by omega)]; exact gb
  unfold wX_op_21
  exact br_f (nI_pos (by omega)) (br_f (nI_ge hd (by omega)) (br_f (nI_pos (by omega)) (br_t (nI_lt hs (by omega)) ⟨jd, nm_r ea ⟨js, nm_r eb (nm_r h6 (nm_r h7 K))⟩⟩)))
theorem al_x0 {d s n a b c z m o : Nat} (hd : d < n) (hs : s < n) (hn : n ≤ 16) (ga : g d = nI a) (gb : g s = nI b) (ha : a < 256) (hb : b < 256) (hc : c < 2) (hz : z < 2) (hm : m < 2) (ho : o < 2)
    (K : post 0 (nI n, nI (al_fl ((a + b + c) / 256) (al_z ((a + b + c) % 256)) ((a + b + c) % 256 / 128) (al_ov a b c)), upd g d (nI ((a + b + c) % 256)))) : wpX_op post (nI n, nI (al_fl c z m o), g) (nI 0) (nI d) (nI s) := by
  unfold wpX_op
  refine br_t rfl (al_x21 hd hs hn ga gb (al_m1 c hc z hz m hm o ho) (al_m8 c hc z hz m hm o ho) (br_t rfl ?_))
  unfold wX_op_89
  exact br_f (by decide) (al_x106 (by omega) ha hb hc K)
theorem al_x1 {d s n a b c z m o : Nat} (hd : d < n) (hs : s < n) (hn : n ≤ 16) (ga : g d = nI a) (gb : g s = nI b) (ha : a < 256) (hb : b < 256) (hc : c < 2) (hz : z < 2) (hm : m < 2) (ho : o < 2)
    (K : post 0 (nI n, nI (al_fl ((a + (255 - b) + c) / 256) (al_z ((a + (255 - b) + c) % 256)) ((a + (255 - b) + c) % 256 / 128) (al_ov a (255 - b) c)), upd g d (nI ((a + (255 - b) + c) % 256)))) : wpX_op post (nI n, nI (al_fl c z m o), g) (nI 1) (nI d) (nI s) := by
  unfold wpX_op
  refine br_f (by decide) (br_t rfl (al_x21 hd hs hn ga gb (al_m1 c hc z hz m hm o ho) (al_m8 c hc z hz m hm o ho) (br_f (by decide) (br_t rfl ?_))))
  unfold wX_op_89
  exact br_t rfl (nm_r (e' := nI (255 - b)) (pk_sub (a := 255) (by omega)) (al_x106 (by omega) ha (by omega) hc K))
theorem al_x2 {d s n a b c z m o : Nat} (hd : d < n) (hs : s < n) (hn : n ≤ 16) (ga : g d = nI a) (gb : g s = nI b) (ha : a < 256) (hc : c < 2) (hz : z < 2) (hm : m < 2) (ho : o < 2)
    (K : post 0 (nI n, nI (al_fl c (al_z (a &&& b)) ((a &&& b) / 128) o), upd g d (nI (a &&& b)))) : wpX_op post (nI n, nI (al_fl c z m o), g) (nI 2) (nI d) (nI s) := by
  unfold wpX_op
  refine br_f (by decide) (br_f (by decide) (br_t rfl (al_x21 hd hs hn ga gb (al_m1 c hc z hz m hm o ho) (al_m8 c hc z hz m hm o ho) (br_f (by decide) (br_f (by decide) (br_t rfl ?_))))))
  exact nm_r (nx_and a b) (al_x220 (by omega) hc ho (Nat.lt_of_le_of_lt Nat.and_le_left ha) K)
theorem al_x3 {d s n a b c z m o : Nat} (hd : d < n) (hs : s < n) (hn : n ≤ 16) (ga : g d = nI a) (gb : g s = nI b) (ha : a < 256) (hc : c < 2) (hz : z < 2) (hm : m < 2) (ho : o < 2)
    (K : post 0 (nI n, nI (al_fl (a / 128) (al_z ((2 * a + c) % 256)) ((2 * a + c) % 256 / 128) o), upd g d (nI ((2 * a + c) % 256)))) : wpX_op post (nI n, nI (al_fl c z m o), g) (nI 3) (nI d) (nI s) := by
  have e : ((2 * nI a) + nI c) &&& 255 = nI ((2 * a + c) % 256) := by
    show (nI 2 * nI a + nI c) &&& 255 = _
    rw [pk_mul, nI_add]
    exact al_mask (by omega)
  unfold wpX_op
  refine br_f (by decide) (br_f (by decide) (br_f (by decide) (br_t rfl (al_x21 hd hs hn ga gb (al_m1 c hc z hz m hm o ho) (al_m8 c hc z hz m hm o ho) (br_f (by decide) (br_f (by decide) (br_f (by decide) (nm_r e ?_))))))))
  by_cases h : a / 128 = 0
  · refine br_t ((al_a128 ha).mpr h) ?_
    rw [h] at K
    exact al_x220 (c := 0) (by omega) (by decide) ho (by omega) K
  · refine br_f (mt (al_a128 ha).mp h) ?_
    have h1 : a / 128 = 1 := by omega
    rw [h1] at K
    exact al_x220 (c := 1) (by omega) (by decide) ho (by omega) K
theorem al_xbad {p0 p1 p2 : Int32} (h0 : ¬ p0 = 0) (h1 : ¬ p0 = 1) (h2 : ¬ p0 = 2) (h3 : ¬ p0 = 3) (K : post 2 (f_n, f_fl, g)) : wpX_op post (f_n, f_fl, g) p0 p1 p2 := by
  unfold wpX_op
  exact br_f h0 (br_f h1 (br_f h2 (br_f h3 K)))
theorem al_xreg {k : Nat} {p1 p2 : Int32} (hk : k ≤ 3) (K : wX_op_21 post (nI k) p1 p2 f_n f_fl g) : wpX_op post (f_n, f_fl, g) (nI k) p1 p2 := by
  unfold wpX_op
  have h : k = 0 ∨ k = 1 ∨ k = 2 ∨ k = 3 := by omega
  rcases h with rfl | rfl | rfl | rfl
  · exact br_t rfl K
  · exact br_f (by decide) (br_t rfl K)
  · exact br_f (by decide) (br_f (by decide) (br_t rfl K))
  · exact br_f (by decide) (br_f (by decide) (br_f (by decide) (br_t rfl K)))
end
end
section
/-! Y's walks: op, its bit loop by one invariant a kind -/
section
variable {post : Int32 → SY → Prop} {f_n f_fc f_fz f_fn f_fv : Int32} {g : Nat → Int32}
theorem al_y242 {d r : Nat} (hd : d < 16) (hr : r < 256) (K : post 0 (f_n, f_fc, nI (al_z r), nI (r / 128), f_fv, upd g d (nI r))) : wY_op_242 post (nI d) (nI r) f_n f_fc f_fz f_fn f_fv g := by
  have e : nI r / 128 = nI (r / 128) := pk_div (a := r) (d := 128) (by omega) (by decide) (by decide)
  unfold wY_op_242
  rw [nI_clamp (n := d) (by omega)]
  refine ⟨vp_in_nI hd (by decide), nm_e (pk_eq r 0 (fun h => ?_) (fun h => ?_))⟩
  · have hz : al_z r = 1 := if_pos h
    rw [hz] at K
    unfold wY_op_261
    exact ⟨by decide, nm_r e K⟩
  · have hz : al_z r = 0 := if_neg h
    rw [hz] at K
    unfold wY_op_261
    exact ⟨by decide, nm_r e K⟩
theorem al_h2 {A : Nat} (h : A < 256) : nI A / 2 = nI (A / 2) := pk_div (a := A) (d := 2) (by omega) (by decide) (by decide)
theorem al_r2 {A : Nat} (h : A < 256) : nI A - nI A / 2 * 2 = nI (A % 2) := pk_rem (a := A) (d := 2) (by omega) (by decide) (by decide)
theorem al_ysa {x1 x2 : Int32} {n A B R W C i : Nat} {x9 : Int32} (h2 : ¬ x1 = 2) (hi : i < 8) (hA : A < 256) (hB : B < 256) (hC : C < 2)
    (K : wY_op_122 post x1 x2 f_n f_fc f_fz f_fn f_fv g n (nI (A / 2)) (nI (B / 2)) (nI (R + (A % 2 + B % 2 + C) % 2 * W)) (nI (W * 2)) (nI ((A % 2 + B % 2 + C) / 2)) (nI C) (nI (i + 1))) : wY_op_122 post x1 x2 f_n f_fc f_fz f_fn f_fv g (n + 1) (nI A) (nI B) (nI R) (nI W) (nI C) x9 (nI i) := by
  have t2 : ¬ (2 : Int32) = 0 := by decide
  have es : nI (A % 2) + nI (B % 2) + nI C = nI (A % 2 + B % 2 + C) := by rw [nI_add, nI_add]
  have e1 : (nI (A % 2) + nI (B % 2) + nI C) - (nI (A % 2) + nI (B % 2) + nI C) / 2 * 2 = nI ((A % 2 + B % 2 + C) % 2) := by rw [es]; exact al_r2 (by omega)
  have e2 : (nI (A % 2) + nI (B % 2) + nI C) / 2 = nI ((A % 2 + B % 2 + C) / 2) := by rw [es]; exact al_h2 (by omega)
  have e3 : nI R + nI ((A % 2 + B % 2 + C) % 2) * nI W = nI (R + (A % 2 + B % 2 + C) % 2 * W) := by rw [pk_mul, nI_add]
  have e4 : nI W * 2 = nI (W * 2) := pk_mul W 2
  unfold wY_op_122
  refine br_f (nI_ge (b := 8) hi (by decide)) ⟨t2, nm_r (al_r2 hA) ⟨t2, nm_r (al_r2 hB) ⟨t2, nm_r (al_h2 hA) ⟨t2, nm_r (al_h2 hB) (nm_e (br_f h2 ⟨t2, nm_r e1 ⟨t2, nm_r e2 ?_⟩⟩))⟩⟩⟩⟩
  unfold wY_op_193
  exact nm_r e3 (nm_r e4 (nm_r (nI_1 i) K))
theorem al_ysb {x2 : Int32} {n A B R W i : Nat} {x8 x9 : Int32} (hi : i < 8) (hA : A < 256) (hB : B < 256)
    (K : wY_op_122 post 2 x2 f_n f_fc f_fz f_fn f_fv g n (nI (A / 2)) (nI (B / 2)) (nI (R + A % 2 * (B % 2) * W)) (nI (W * 2)) x8 x9 (nI (i + 1))) : wY_op_122 post 2 x2 f_n f_fc f_fz f_fn f_fv g (n + 1) (nI A) (nI B) (nI R) (nI W) x8 x9 (nI i) := by
  have t2 : ¬ (2 : Int32) = 0 := by decide
  have e3 : nI R + nI (A % 2 * (B % 2)) * nI W = nI (R + A % 2 * (B % 2) * W) := by rw [pk_mul, nI_add]
  have e4 : nI W * 2 = nI (W * 2) := pk_mul W 2
  unfold wY_op_122
  refine br_f (nI_ge (b := 8) hi (by decide)) ⟨t2, nm_r (al_r2 hA) ⟨t2, nm_r (al_r2 hB) ⟨t2, nm_r (al_h2 hA) ⟨t2, nm_r (al_h2 hB) (nm_r (pk_mul (A % 2) (B % 2)) (br_t rfl ?_))⟩⟩⟩⟩
  unfold wY_op_193
  exact nm_r e3 (nm_r e4 (nm_r (nI_1 i) K))
theorem al_lt2 {R W s : Nat} (hR : R < W) (hs : s < 2) : R + s * W < W * 2 := by
  have h : s = 0 ∨ s = 1 := by omega
  rcases h with rfl | rfl <;> omega
theorem al_dv {a A W : Nat} (h : A = a / W) : A / 2 = a / (W * 2) := by rw [h, Nat.div_div_eq_div_mul]
theorem al_w2 {W e : Nat} (h : W * 2 ^ (e + 1) = 256) : W * 2 * 2 ^ e = 256 := by rw [← h, Nat.pow_succ, Nat.mul_comm (2 ^ e) 2, Nat.mul_assoc]
theorem al_eqa {A B C R W T : Nat} (h : R + W * (A + B + C) = T) : R + (A % 2 + B % 2 + C) % 2 * W + W * 2 * (A / 2 + B / 2 + (A % 2 + B % 2 + C) / 2) = T := by
  have e : A + B + C = (A % 2 + B % 2 + C) % 2 + 2 * (A / 2 + B / 2 + (A % 2 + B % 2 + C) / 2) := by omega
  generalize (A % 2 + B % 2 + C) % 2 = s at e ⊢
  generalize A / 2 + B / 2 + (A % 2 + B % 2 + C) / 2 = q at e ⊢
  rw [← h, e, Nat.mul_add, Nat.mul_comm W s, Nat.mul_assoc, Nat.add_assoc]
theorem al_eqb {A B R W T : Nat} (h : R + W * (A &&& B) = T) : R + A % 2 * (B % 2) * W + W * 2 * (A / 2 &&& B / 2) = T := by
  rw [← h, al_and A B, Nat.mul_add, Nat.mul_comm W (A % 2 * (B % 2)), Nat.mul_assoc W 2, Nat.add_assoc]
theorem al_ovl {a b c A B C R : Nat} (ha : a < 256) (hb : b < 256) (hc : c < 2) (hC : C < 2) (hA : A = a / 128) (hB : B = b / 128) (hR : R < 128) (h : R + 128 * (A + B + C) = a + b + c) : al_ov a b c = if C = (A % 2 + B % 2 + C) / 2 then 0 else 1 := by
  have e : (a + b + c) % 256 / 128 = (A + B + C) % 2 := by omega
  unfold al_ov
  rw [e, ← hA, ← hB]
  have hA2 : A = 0 ∨ A = 1 := by omega
  have hB2 : B = 0 ∨ B = 1 := by omega
  have hC2 : C = 0 ∨ C = 1 := by omega
  clear e h hR hA hB
  rcases hA2 with rfl | rfl <;> rcases hB2 with rfl | rfl <;> rcases hC2 with rfl | rfl <;> decide
theorem al_ya {x1 x2 : Int32} {a b c : Nat} (h2 : ¬ x1 = 2) (ha : a < 256) (hb : b < 256) (hc : c < 2)
    (K : wY_op_242 post x2 (nI ((a + b + c) % 256)) f_n (nI ((a + b + c) / 256)) f_fz f_fn (nI (al_ov a b c)) g) :
    ∀ d n i W A B R C I : Nat, i + d = 8 → d < n → W * 2 ^ d = 256 → A = a / W → B = b / W → C < 2 → I < 2 → R < W → R + W * (A + B + C) = a + b + c → (d = 0 → al_ov a b c = if I = C then 0 else 1) → wY_op_122 post x1 x2 f_n f_fc f_fz f_fn f_fv g n (nI A) (nI B) (nI R) (nI W) (nI C) (nI I) (nI i) := by
  intro d
  induction d with
  | zero =>
    intro n i W A B R C I hi hn hW hA hB hC hI hR he ho
    obtain ⟨m, rfl⟩ : ∃ m, n = m + 1 := ⟨n - 1, by omega⟩
    have hW' : W = 256 := by rw [Nat.pow_zero, Nat.mul_one] at hW; exact hW
    subst hW'
    have eR : (a + b + c) % 256 = R := by omega
    have eC : (a + b + c) / 256 = C := by omega
    have ho' := ho rfl
    rw [eR, eC] at K
    unfold wY_op_122
    refine br_t (nI_le (a := 8) (by omega) (by omega)) (br_f h2 (pk_eq I C (fun h => ?_) (fun h => ?_)))
    · rw [ho', if_pos h] at K
      exact K
    · rw [ho', if_neg h] at K
      exact K
  | succ e ih =>
    intro n i W A B R C I hi hn hW hA hB hC hI hR he ho
    obtain ⟨m, rfl⟩ : ∃ m, n = m + 1 := ⟨n - 1, by omega⟩
    have lA : A ≤ a := by rw [hA]; exact Nat.div_le_self a W
    have lB : B ≤ b := by rw [hB]; exact Nat.div_le_self b W
    refine al_ysa h2 (by omega) (by omega) (by omega) hC ?_
    refine ih m (i + 1) (W * 2) (A / 2) (B / 2) _ _ C (by omega) (by omega) (al_w2 hW) (al_dv hA) (al_dv hB) (by omega) hC (al_lt2 hR (by omega)) (al_eqa he) ?_
    intro h0
    subst h0
    have hW' : W = 128 := by omega
    subst hW'
    exact al_ovl ha hb hc hC hA hB hR he
theorem al_yb {x2 x8 x9 : Int32} {a b : Nat} (ha : a < 256) (hb : b < 256) (K : wY_op_242 post x2 (nI (a &&& b)) f_n f_fc f_fz f_fn f_fv g) :
    ∀ d n i W A B R : Nat, i + d = 8 → d < n → W * 2 ^ d = 256 → A = a / W → B = b / W → R < W → R + W * (A &&& B) = a &&& b → wY_op_122 post 2 x2 f_n f_fc f_fz f_fn f_fv g n (nI A) (nI B) (nI R) (nI W) x8 x9 (nI i) := by
  intro d
  induction d with
  | zero =>
    intro n i W A B R hi hn hW hA hB hR he
    obtain ⟨m, rfl⟩ : ∃ m, n = m + 1 := ⟨n - 1, by omega⟩
    have hW' : W = 256 := by rw [Nat.pow_zero, Nat.mul_one] at hW; exact hW
    subst hW'
    have eA : A = 0 := by omega
    rw [eA, Nat.zero_and, Nat.mul_zero, Nat.add_zero] at he
    rw [← he] at K
    unfold wY_op_122
    exact br_t (nI_le (a := 8) (by omega) (by omega)) (br_t rfl K)
  | succ e ih =>
    intro n i W A B R hi hn hW hA hB hR he
    obtain ⟨m, rfl⟩ : ∃ m, n = m + 1 := ⟨n - 1, by omega⟩
    have lA : A ≤ a := by rw [hA]; exact Nat.div_le_self a W
    have lB : B ≤ b := by rw [hB]; exact Nat.div_le_self b W
    have hs : A % 2 * (B % 2) < 2 := by
      have h : A % 2 = 0 ∨ A % 2 = 1 := by omega
      rcases h with h | h <;> rw [h] <;> omega
    refine al_ysb (by omega) (by omega) (by omega) ?_
    exact ih m (i + 1) (W * 2) (A / 2) (B / 2) _ (by omega) (by omega) (al_w2 hW) (al_dv hA) (al_dv hB) (al_lt2 hR hs) (al_eqb he)
theorem al_y69a {x1 : Int32} {d a b c : Nat} (h2 : ¬ x1 = 2) (h3 : ¬ x1 = 3) (hd : d < 16) (ha : a < 256) (hb : b < 256) (hc : c < 2)
    (K : post 0 (f_n, nI ((a + b + c) / 256), nI (al_z ((a + b + c) % 256)), nI ((a + b + c) % 256 / 128), nI (al_ov a b c), upd g d (nI ((a + b + c) % 256)))) : wY_op_69 post x1 (nI d) (nI a) (nI b) f_n (nI c) f_fz f_fn f_fv g := by
  unfold wY_op_69
  refine br_f h3 ⟨9, ?_⟩
  exact al_ya h2 ha hb hc (al_y242 hd (by omega) K) 8 9 0 1 a b 0 c 0 rfl (by decide) rfl (Nat.div_one a).symm (Nat.div_one b).symm hc (by decide) (by decide) (by omega) (fun h => absurd h (by decide))
theorem al_y69b {d a b : Nat} (hd : d < 16) (ha : a < 256) (hb : b < 256)
    (K : post 0 (f_n, f_fc, nI (al_z (a &&& b)), nI ((a &&& b) / 128), f_fv, upd g d (nI (a &&& b)))) : wY_op_69 post 2 (nI d) (nI a) (nI b) f_n f_fc f_fz f_fn f_fv g := by
  unfold wY_op_69
  refine br_f (by decide) ⟨9, ?_⟩
  exact al_yb ha hb (al_y242 hd (Nat.lt_of_le_of_lt Nat.and_le_left ha) K) 8 9 0 1 a b 0 rfl (by decide) rfl (Nat.div_one a).symm (Nat.div_one b).symm (by decide) (by rw [Nat.one_mul, Nat.zero_add])
theorem al_y69c {x5 : Int32} {d a c : Nat} (hd : d < 16) (ha : a < 256) (hc : c < 2)
    (K : post 0 (f_n, nI (a / 128), nI (al_z ((2 * a + c) % 256)), nI ((2 * a + c) % 256 / 128), f_fv, upd g d (nI ((2 * a + c) % 256)))) : wY_op_69 post 3 (nI d) (nI a) x5 f_n (nI c) f_fz f_fn f_fv g := by
  have t : ¬ (128 : Int32) = 0 := by decide
  have e1 : nI a - nI a / 128 * 128 = nI (a % 128) := pk_rem (a := a) (d := 128) (by omega) (by decide) (by decide)
  have e2 : ((nI a - nI a / 128 * 128) * 2) + nI c = nI ((2 * a + c) % 256) := by
    rw [e1]
    show nI (a % 128) * nI 2 + nI c = _
    rw [pk_mul, nI_add]
    exact congrArg nI (by omega)
  have e3 : nI a / 128 = nI (a / 128) := pk_div (a := a) (d := 128) (by omega) (by decide) (by decide)
  unfold wY_op_69
  exact br_t rfl ⟨t, nm_r e2 ⟨t, nm_r e3 (al_y242 hd (by omega) K)⟩⟩
theorem al_y1 {d s n a b : Nat} (hd : d < n) (hs : s < n) (hn : n ≤ 16) (ga : g d = nI a) (gb : g s = nI b) (hb : b < 256) (K : wY_op_69 post 1 (nI d) (nI a) (nI (255 - b)) (nI n) f_fc f_fz f_fn f_fv g) : wpY_op post (nI n, f_fc, f_fz, f_fn, f_fv, g) (nI 1) (nI d) (nI s) := by
  have jd : vp_in (nI d) 16 := vp_in_nI (by omega) (by decide)
  have js : vp_in (nI s) 16 := vp_in_nI (by omega) (by decide)
  have ea : g (nI d).toNatClampNeg = nI a := by rw [nI_clamp (by omega)]; exact ga
  have eb : 255 - g (nI s).toNatClampNeg = nI (255 - b) := by rw [nI_clamp (by omega), gb]; exact pk_sub (a := 255) (by omega)
  unfold wpY_op
  refine br_f (by decide) (br_t (by decide) (br_f (nI_pos (by omega)) (br_f (nI_ge hd (by omega)) (br_f (nI_pos (by omega)) (br_t (nI_lt hs (by omega)) ⟨jd, nm_r ea (br_t rfl ⟨js, ?_⟩)⟩)))))
  rw [eb]
  exact K
theorem al_yk {k d s n a b : Nat} (hk : k ≤ 3) (hk1 : k ≠ 1) (hd : d < n) (hs : s < n) (hn : n ≤ 16) (ga : g d = nI a) (gb : g s = nI b) (K : wY_op_69 post (nI k) (nI d) (nI a) (nI b) (nI n) f_fc f_fz f_fn f_fv g) : wpY_op post (nI n, f_fc, f_fz, f_fn, f_fv, g) (nI k) (nI d) (nI s) := by
  have jd : vp_in (nI d) 16 := vp_in_nI (by omega) (by decide)
  have js : vp_in (nI s) 16 := vp_in_nI (by omega) (by decide)
  have ea : g (nI d).toNatClampNeg = nI a := by rw [nI_clamp (by omega)]; exact ga
  have eb : g (nI s).toNatClampNeg = nI b := by rw [nI_clamp (by omega)]; exact gb
  have h1 : ¬ nI k = 1 := fun h => hk1 ((nI_eq (b := 1) (by omega) (by decide)).mp h)
  unfold wpY_op
  refine br_f (nI_pos (by omega)) (br_t (nI_le (b := 3) hk (by decide)) (br_f (nI_pos (by omega)) (br_f (nI_ge hd (by omega)) (br_f (nI_pos (by omega)) (br_t (nI_lt hs (by omega)) ⟨jd, nm_r ea (br_f h1 ⟨js, ?_⟩)⟩)))))
  rw [eb]
  exact K
end
end
section
/-- one register file for both sides, every register a byte; the four flags are 0 or 1 each, X keeps them in one word -/
def i_Rel (_ : Nat) (u : SX) (v : SY) : Prop := ∃ (n c z m o : Nat) (g : Nat → Int32), (1 ≤ n ∧ n ≤ 16) ∧ (c < 2 ∧ z < 2 ∧ m < 2 ∧ o < 2) ∧ (∀ j : Nat, ∃ x : Nat, x < 256 ∧ g j = nI x) ∧ u = (nI n, nI (al_fl c z m o), g) ∧ v = (nI n, nI c, nI z, nI m, nI o, g)
theorem i_up {k : Nat} {u : SX} {v : SY} (h : i_Rel k u v) : i_Rel (k + 4) u v := h
theorem al_new (k n : Nat) (h1 : 1 ≤ n) (h2 : n ≤ 16) : i_Rel k (nI n, 0, fun _ => 0) (nI n, 0, 0, 0, 0, fun _ => 0) := ⟨n, 0, 0, 0, 0, fun _ => 0, ⟨h1, h2⟩, ⟨by decide, by decide, by decide, by decide⟩, fun _ => ⟨0, by decide, rfl⟩, rfl, rfl⟩
theorem al_byte {g : Nat → Int32} (hg : ∀ j : Nat, ∃ x : Nat, x < 256 ∧ g j = nI x) {d r : Nat} (hr : r < 256) : ∀ j : Nat, ∃ x : Nat, x < 256 ∧ upd g d (nI r) j = nI x := by
  intro j
  by_cases h : j = d
  · subst h
    exact ⟨r, hr, pk_us⟩
  · obtain ⟨x, hx, e⟩ := hg j
    exact ⟨x, hx, (pk_un h).trans e⟩
theorem al_put (k : Nat) {g : Nat → Int32} {n c o d r : Nat} (hn : 1 ≤ n ∧ n ≤ 16) (hg : ∀ j : Nat, ∃ x : Nat, x < 256 ∧ g j = nI x) (hc : c < 2) (ho : o < 2) (hr : r < 256) : i_Rel k (nI n, nI (al_fl c (al_z r) (r / 128) o), upd g d (nI r)) (nI n, nI c, nI (al_z r), nI (r / 128), nI o, upd g d (nI r)) := ⟨n, c, al_z r, r / 128, o, upd g d (nI r), hn, ⟨hc, al_z2 r, by omega, ho⟩, al_byte hg hr, rfl, rfl⟩
theorem i_vc0 (k0 : Int32) : wpX_init (fun u => wpY_init (fun v => i_Rel 1 u v) k0) k0 := by
  unfold wpX_init wX_init_21 wpY_init
  by_cases h1 : 1 ≤ k0
  · have h0 : ¬ k0 < 0 := by
      rw [Int32.lt_iff_toInt_lt]
      rw [Int32.le_iff_toInt_le] at h1
      have e0 : (0 : Int32).toInt = 0 := by decide
      have e1 : (1 : Int32).toInt = 1 := by decide
      omega
    obtain ⟨j, hj, rfl⟩ := nI_of h0
    have hj1 : 1 ≤ j := (nI_leI (a := 1) (by decide) hj).mp h1
    refine br_t h1 ?_
    by_cases h2 : nI j ≤ 16
    · have hj2 : j ≤ 16 := (nI_leI (b := 16) hj (by decide)).mp h2
      exact br_t h2 (br_t h1 (br_t h2 (al_new 1 j hj1 hj2)))
    · exact br_f h2 (br_t h1 (br_f h2 (al_new 1 16 (by decide) (by decide))))
  · exact br_f h1 (br_t (by decide) (br_f h1 (al_new 1 1 (by decide) (by decide))))
theorem i_vc_size {k : Nat} {u : SX} {v : SY} (I : i_Rel k u v) (hk : k + 4 ≤ 2049) : wpX_size (fun r => wpY_size (fun r' => r' = r ∧ i_Rel (k + 4) u v) v) u := by
  have I' : i_Rel (k + 4) u v := I
  obtain ⟨n, c, z, m, o, g, hn, hf, hg, rfl, rfl⟩ := I
  exact ⟨rfl, I'⟩
theorem i_vc_load {k : Nat} {u : SX} {v : SY} (I : i_Rel k u v) (hk : k + 4 ≤ 2049) (v1 : Int32) (v2 : Int32) : wpX_load (fun r u' => wpY_load (fun r' v' => r' = r ∧ i_Rel (k + 4) u' v') v v1 v2) u v1 v2 := by
  have I' : i_Rel (k + 4) u v := I
  obtain ⟨n, c, z, m, o, g, hn, hf, hg, rfl, rfl⟩ := I
  unfold wpX_load wpY_load
  by_cases h0 : v1 < 0
  · exact br_t h0 (br_t h0 ⟨rfl, I'⟩)
  · refine br_f h0 ?_
    by_cases h1 : v1 < nI n
    · obtain ⟨d, hd, rfl⟩ := nI_of h0
      have hdn : d < n := (nI_ltI hd (by omega)).mp h1
      have jd : vp_in (nI d) 16 := vp_in_nI (by omega) (by decide)
      have t : ¬ (256 : Int32) = 0 := by decide
      obtain ⟨r, hr, er⟩ := pk_andE v2 (m := 255) 8 (by decide)
      refine br_t h1 ⟨jd, nm_r (e' := upd g d (nI r)) (by rw [nI_clamp hd, er]) (br_f h0 (br_t h1 ⟨t, t, jd, nm_r (e' := upd g d (nI r)) (by rw [nI_clamp hd, al_ld, er]) ⟨rfl, ?_⟩⟩))⟩
      exact ⟨n, c, z, m, o, upd g d (nI r), hn, hf, al_byte hg hr, rfl, rfl⟩
    · exact br_f h1 (br_f h0 (br_f h1 ⟨rfl, I'⟩))
theorem i_vc_get {k : Nat} {u : SX} {v : SY} (I : i_Rel k u v) (hk : k + 4 ≤ 2049) (v1 : Int32) : wpX_get (fun r => wpY_get (fun r' => r' = r ∧ i_Rel (k + 4) u v) v v1) u v1 := by
  have I' : i_Rel (k + 4) u v := I
  obtain ⟨n, c, z, m, o, g, hn, hf, hg, rfl, rfl⟩ := I
  unfold wpX_get wpY_get
  by_cases h0 : v1 < 0
  · exact br_t h0 (br_t h0 ⟨rfl, I'⟩)
  · refine br_f h0 ?_
    by_cases h1 : v1 < nI n
    · obtain ⟨d, hd, rfl⟩ := nI_of h0
      have hdn : d < n := (nI_ltI hd (by omega)).mp h1
      have jd : vp_in (nI d) 16 := vp_in_nI (by omega) (by decide)
      exact br_t h1 ⟨jd, br_f h0 (br_t h1 ⟨jd, rfl, I'⟩)⟩
    · exact br_f h1 (br_f h0 (br_f h1 ⟨rfl, I'⟩))
theorem i_vc_flags {k : Nat} {u : SX} {v : SY} (I : i_Rel k u v) (hk : k + 4 ≤ 2049) : wpX_flags (fun r => wpY_flags (fun r' => r' = r ∧ i_Rel (k + 4) u v) v) u := by
  have I' : i_Rel (k + 4) u v := I
  obtain ⟨n, c, z, m, o, g, hn, hf, hg, rfl, rfl⟩ := I
  exact ⟨al_sum c z m o, I'⟩
theorem i_vc_op {k : Nat} {u : SX} {v : SY} (I : i_Rel k u v) (hk : k + 4 ≤ 2049) (v1 : Int32) (v2 : Int32) (v3 : Int32) : wpX_op (fun r u' => wpY_op (fun r' v' => r' = r ∧ i_Rel (k + 4) u' v') v v1 v2 v3) u v1 v2 v3 := by
  have I' : i_Rel (k + 4) u v := I
  obtain ⟨n, c, z, m, o, g, hn, ⟨hc, hz, hm, ho⟩, hg, rfl, rfl⟩ := I
  by_cases h0 : v1 < 0
  · have ne : ∀ q : Int32, ¬ q < 0 → ¬ v1 = q := fun q hq e => hq (e ▸ h0)
    refine al_xbad (ne 0 (by decide)) (ne 1 (by decide)) (ne 2 (by decide)) (ne 3 (by decide)) ?_
    unfold wpY_op
    exact br_t h0 ⟨rfl, I'⟩
  obtain ⟨q, hq, rfl⟩ := nI_of h0
  by_cases h3 : q ≤ 3
  case neg =>
    have ne : ∀ p : Nat, p ≤ 3 → ¬ nI q = nI p := fun p hp e => by
      have := (nI_eq hq (by omega)).mp e
      omega
    refine al_xbad (ne 0 (by decide)) (ne 1 (by decide)) (ne 2 (by decide)) (ne 3 (by decide)) ?_
    unfold wpY_op
    exact br_f h0 (br_f (nI_ge (a := 3) (by omega) hq) ⟨rfl, I'⟩)
  have l3 : nI q ≤ 3 := nI_le (b := 3) h3 (by decide)
  by_cases hd0 : v2 < 0
  · refine al_xreg h3 ?_
    unfold wX_op_21 wpY_op
    exact br_t hd0 (br_f h0 (br_t l3 (br_t hd0 ⟨rfl, I'⟩)))
  by_cases hd1 : nI n ≤ v2
  · refine al_xreg h3 ?_
    unfold wX_op_21 wpY_op
    exact br_f hd0 (br_t hd1 (br_f h0 (br_t l3 (br_f hd0 (br_t hd1 ⟨rfl, I'⟩)))))
  by_cases hs0 : v3 < 0
  · refine al_xreg h3 ?_
    unfold wX_op_21 wpY_op
    exact br_f hd0 (br_f hd1 (br_t hs0 (br_f h0 (br_t l3 (br_f hd0 (br_f hd1 (br_t hs0 ⟨rfl, I'⟩)))))))
  by_cases hs1 : v3 < nI n
  case neg =>
    refine al_xreg h3 ?_
    unfold wX_op_21 wpY_op
    exact br_f hd0 (br_f hd1 (br_f hs0 (br_f hs1 (br_f h0 (br_t l3 (br_f hd0 (br_f hd1 (br_f hs0 (br_f hs1 ⟨rfl, I'⟩)))))))))
  obtain ⟨d, hd, rfl⟩ := nI_of hd0
  obtain ⟨s, hs, rfl⟩ := nI_of hs0
  have dn : d < n := by
    have : ¬ n ≤ d := fun h => hd1 ((nI_leI (by omega) hd).mpr h)
    omega
  have sn : s < n := (nI_ltI hs (by omega)).mp hs1
  obtain ⟨a, ha, ga⟩ := hg d
  obtain ⟨b, hb, gb⟩ := hg s
  have n16 : n ≤ 16 := hn.2
  have d16 : d < 16 := by omega
  have hq4 : q = 0 ∨ q = 1 ∨ q = 2 ∨ q = 3 := by omega
  rcases hq4 with rfl | rfl | rfl | rfl
  · exact al_x0 dn sn n16 ga gb ha hb hc hz hm ho (al_yk (by decide) (by decide) dn sn n16 ga gb (al_y69a (by decide) (by decide) d16 ha hb hc ⟨rfl, al_put _ hn hg (by omega) (al_ov2 _ _ _) (by omega)⟩))
  · exact al_x1 dn sn n16 ga gb ha hb hc hz hm ho (al_y1 dn sn n16 ga gb hb (al_y69a (by decide) (by decide) d16 ha (by omega) hc ⟨rfl, al_put _ hn hg (by omega) (al_ov2 _ _ _) (by omega)⟩))
  · exact al_x2 dn sn n16 ga gb ha hc hz hm ho (al_yk (by decide) (by decide) dn sn n16 ga gb (al_y69b d16 ha hb ⟨rfl, al_put _ hn hg hc ho (Nat.lt_of_le_of_lt Nat.and_le_left ha)⟩))
  · exact al_x3 dn sn n16 ga gb ha hc hz hm ho (al_yk (by decide) (by decide) dn sn n16 ga gb (al_y69c d16 ha hc ⟨rfl, al_put _ hn hg (by omega) ho (by omega)⟩))
end
