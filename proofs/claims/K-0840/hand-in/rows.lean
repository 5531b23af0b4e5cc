section
theorem pk_us {f : Nat → Int32} {k : Nat} {x : Int32} : upd f k x k = x := if_pos rfl
theorem pk_un {f : Nat → Int32} {k j : Nat} {x : Int32} (h : j ≠ k) : upd f k x j = f j := if_neg h
theorem pk_sub {a b : Nat} (h : b ≤ a) : nI a - nI b = nI (a - b) := by
  obtain ⟨c, rfl⟩ : ∃ c, a = c + b := ⟨a - b, by omega⟩
  rw [← nI_add, Int32.add_sub_cancel, Nat.add_sub_cancel]
theorem pk_mul (a b : Nat) : nI a * nI b = nI (a * b) := (Int32.ofNat_mul a b).symm
theorem pk_div {a d : Nat} (ha : a < 2 ^ 31) (h0 : 0 < d) (hd : d < 2 ^ 31) : nI a / nI d = nI (a / d) := by
  apply Int32.toInt_inj.mp
  rw [lg_idiv_nonneg (by rw [nI_toInt ha]; omega) (by rw [nI_toInt hd]; omega), nI_toInt ha, nI_toInt hd, nI_toInt (Nat.lt_of_le_of_lt (Nat.div_le_self a d) ha)]
  first | rfl | exact (Int.natCast_ediv _ _).symm
theorem pk_rem {a d : Nat} (ha : a < 2 ^ 31) (h0 : 0 < d) (hd : d < 2 ^ 31) : nI a - nI a / nI d * nI d = nI (a % d) := by
  rw [pk_div ha h0 hd, pk_mul, pk_sub (Nat.div_mul_le_self a d)]
  exact congrArg nI (by have := Nat.div_add_mod' a d; omega)
theorem pk_le {x y : Int32} {A B : Prop} (a b : Nat) (f : a ≤ b → A) (g : b < a → B) (hx : x = nI a := by rfl) (hy : y = nI b := by rfl) (ha : a < 2 ^ 31 := by omega) (hb : b < 2 ^ 31 := by omega) : (x ≤ y → A) ∧ (¬ x ≤ y → B) := by
  subst hx hy
  rw [nI_leI ha hb]
  exact ⟨f, fun z => g (by omega)⟩
theorem pk_lt {x y : Int32} {A B : Prop} (a b : Nat) (f : a < b → A) (g : b ≤ a → B) (hx : x = nI a := by rfl) (hy : y = nI b := by rfl) (ha : a < 2 ^ 31 := by omega) (hb : b < 2 ^ 31 := by omega) : (x < y → A) ∧ (¬ x < y → B) := by
  subst hx hy
  rw [nI_ltI ha hb]
  exact ⟨f, fun z => g (by omega)⟩
theorem pk_eq {x y : Int32} {A B : Prop} (a b : Nat) (f : a = b → A) (g : a ≠ b → B) (hx : x = nI a := by rfl) (hy : y = nI b := by rfl) (ha : a < 2 ^ 31 := by omega) (hb : b < 2 ^ 31 := by omega) : (x = y → A) ∧ (¬ x = y → B) := by
  subst hx hy
  rw [nI_eq ha hb]
  exact ⟨f, g⟩
theorem pk_in {x : Int32} (n N : Nat) (h : n < N) (hx : x = nI n := by rfl) (hN : N < 2 ^ 31 := by omega) : vp_in x N := by
  subst hx
  exact vp_in_nI h hN
theorem pk_cl {x : Int32} (n : Nat) (hx : x = nI n := by rfl) (h : n < 2 ^ 31 := by omega) : x.toNatClampNeg = n := by
  subst hx
  exact nI_clamp h
theorem pk_tn {n : Nat} (h : n < 2 ^ 32) : (nI n).toBitVec.toNat = n := Nat.mod_eq_of_lt h
theorem pk_and (x : Int32) {m : Int32} (k : Nat) (hm : m.toBitVec.toNat = 2 ^ k - 1) : x &&& m = nI (x.toBitVec.toNat % 2 ^ k) := by
  apply Int32.toBitVec_inj.mp
  apply BitVec.eq_of_toNat_eq
  rw [Int32.toBitVec_and, BitVec.toNat_and, hm, Nat.and_two_pow_sub_one_eq_mod]
  show _ = (BitVec.ofNat 32 _).toNat
  rw [BitVec.toNat_ofNat]
  exact (Nat.mod_eq_of_lt (Nat.lt_of_le_of_lt (Nat.mod_le _ _) x.toBitVec.isLt)).symm
theorem pk_andN {n : Nat} (h : n < 2 ^ 32) {m : Int32} (k : Nat) (hm : m.toBitVec.toNat = 2 ^ k - 1) : nI n &&& m = nI (n % 2 ^ k) := by
  rw [pk_and _ k hm, pk_tn h]
theorem pk_andE (x : Int32) {m : Int32} (k : Nat) (hm : m.toBitVec.toNat = 2 ^ k - 1) : ∃ j : Nat, j < 2 ^ k ∧ x &&& m = nI j := ⟨_, Nat.mod_lt _ (Nat.two_pow_pos k), pk_and x k hm⟩
theorem pk_shr (a s : Int32) (k : Nat) (hs : (s.toBitVec.smod 32).toNat = k) : (a >>> s).toInt = a.toInt >>> k := by
  show (a.toBitVec.sshiftRight (s.toBitVec.smod 32).toNat).toInt = _
  rw [hs, BitVec.toInt_sshiftRight]
  rfl
theorem pk_shrN {n : Nat} (h : n < 2 ^ 31) (s : Int32) (k : Nat) (hs : (s.toBitVec.smod 32).toNat = k) : nI n >>> s = nI (n / 2 ^ k) := by
  apply Int32.toInt_inj.mp
  have h2 : n / 2 ^ k ≤ n := Nat.div_le_self _ _
  rw [pk_shr _ _ k hs, nI_toInt h, nI_toInt (by omega), Int.shiftRight_eq_div_pow]
  rfl
theorem pk_vb (z : Int32) : vp_nar .byte z.toInt8.toInt32 = z.toInt8.toInt32 := by rw [vp_nar_byte]; simp
def bt (x : Int32) (i : Nat) : Bool := x.toBitVec.getLsbD i
theorem b_ext {x y : Int32} (h : ∀ i, i < 32 → bt x i = bt y i) : x = y := Int32.toBitVec_inj.mp (BitVec.eq_of_getLsbD_eq (fun i hi => h i hi))
theorem b_or (x y : Int32) (i : Nat) : bt (x ||| y) i = (bt x i || bt y i) := by unfold bt; rw [Int32.toBitVec_or, BitVec.getLsbD_or]
theorem b_and (x y : Int32) (i : Nat) : bt (x &&& y) i = (bt x i && bt y i) := by unfold bt; rw [Int32.toBitVec_and, BitVec.getLsbD_and]
theorem b_big {x : Int32} {i : Nat} (h : 32 ≤ i) : bt x i = false := BitVec.getLsbD_of_ge _ _ h
theorem b_255 (i : Nat) : bt 255 i = decide (i < 8) := by
  rcases Nat.lt_or_ge i 32 with h | h
  · exact (by decide +kernel : ∀ i, i < 32 → bt 255 i = decide (i < 8)) i h
  · rw [b_big h, decide_eq_false (by omega)]
theorem b_0 (i : Nat) : bt 0 i = false := BitVec.getLsbD_zero
theorem s_l : ∀ n, n < 32 → ((nI n &&& 31).toBitVec.smod 32).toNat = n := by decide +kernel
theorem b_shl (n : Nat) (hn : n < 32) (x : Int32) {i : Nat} (hi : i < 32) : bt (x <<< (nI n &&& 31)) i = (decide (n ≤ i) && bt x (i - n)) := by
  unfold bt
  rw [Int32.toBitVec_shiftLeft]
  show (x.toBitVec <<< ((nI n &&& 31).toBitVec.smod 32).toNat).getLsbD i = _
  rw [s_l n hn, BitVec.getLsbD_shiftLeft]
  rcases Nat.lt_or_ge i n with h | h
  · simp [h, Nat.not_le.mpr h]
  · simp [hi, h, Nat.not_lt.mpr h]
theorem b_sshr (n : Nat) (hn : n < 32) (x : Int32) {i : Nat} (hi : i < 32) : bt (x >>> (nI n &&& 31)) i = if n + i < 32 then bt x (n + i) else bt x 31 := by
  unfold bt
  rw [Int32.toBitVec_shiftRight]
  show (x.toBitVec.sshiftRight ((nI n &&& 31).toBitVec.smod 32).toNat).getLsbD i = _
  rw [s_l n hn, BitVec.getLsbD_sshiftRight, BitVec.msb_eq_getLsbD_last]
  simp [hi]
theorem bp_b (x : Int32) : x.toInt8.toInt32 &&& 255 = x &&& 255 := by
  apply Int32.toBitVec_inj.mp
  rw [Int32.toBitVec_and, Int32.toBitVec_and, Int8.toBitVec_toInt32, Int32.toBitVec_toInt8]
  apply BitVec.eq_of_getLsbD_eq
  intro i hi
  rw [BitVec.getLsbD_and, BitVec.getLsbD_and]
  have hm : ∀ i < 32, 8 ≤ i → (255 : Int32).toBitVec.getLsbD i = false := by decide
  rcases Nat.lt_or_ge i 8 with z | z
  · rw [BitVec.getLsbD_signExtend, BitVec.getLsbD_signExtend, if_pos z, if_pos hi]
    simp only [z, hi, decide_true, Bool.true_and]
  · rw [hm i hi z]; simp
theorem wb_tb (n : Nat) : (lN n).toBitVec = BitVec.ofNat 64 n := rfl
theorem wb_c : ∀ k, k < 64 → ((nI k).toInt64 &&& 63) = lN k := by decide +kernel
theorem wb_cu : ∀ k, k < 64 → ((nI k).toInt64.toUInt64 &&& Int64.toUInt64 63) = UInt64.ofNat k := by decide +kernel
theorem wb_sm : ∀ k, k < 64 → (BitVec.ofNat 64 k).smod 64 = BitVec.ofNat 64 k := by decide +kernel
theorem u_tn {n : Nat} (h : n < 2 ^ 64) : (UInt64.ofNat n).toNat = n := Nat.mod_eq_of_lt h
end
section
/-! Int64 by its bits, and the pictures: the finished bytes, a limb's bits, the accumulator's bits -/
def pq_b (x : Int64) (i : Nat) : Bool := x.toBitVec.getLsbD i
theorem pq_or (x y : Int64) (i : Nat) : pq_b (x ||| y) i = (pq_b x i || pq_b y i) := by unfold pq_b; rw [Int64.toBitVec_or, BitVec.getLsbD_or]
theorem pq_and (x y : Int64) (i : Nat) : pq_b (x &&& y) i = (pq_b x i && pq_b y i) := by unfold pq_b; rw [Int64.toBitVec_and, BitVec.getLsbD_and]
theorem pq_0 (i : Nat) : pq_b 0 i = false := BitVec.getLsbD_zero
theorem pq_mask : ∀ i, i < 32 → pq_b 67108863 i = decide (i < 26) := by decide +kernel
theorem pq_shl (x : Int64) {k i : Nat} (hk : k < 64) (hi : i < 64) : pq_b (x <<< ((nI k).toInt64 &&& 63)) i = (decide (k ≤ i) && pq_b x (i - k)) := by
  rw [wb_c k hk]
  unfold pq_b
  rw [Int64.toBitVec_shiftLeft, wb_tb, wb_sm k hk, BitVec.shiftLeft_eq', BitVec.toNat_ofNat, Nat.mod_eq_of_lt (show k < 2 ^ 64 by omega), BitVec.getLsbD_shiftLeft]
  rcases Nat.lt_or_ge i k with h | h
  · simp [h, Nat.not_le.mpr h]
  · simp [hi, h, Nat.not_lt.mpr h]
theorem pq_ushr (x : Int64) {k : Nat} (hk : k < 64) (i : Nat) : pq_b ((x.toUInt64 >>> ((nI k).toInt64.toUInt64 &&& Int64.toUInt64 63)).toInt64) i = pq_b x (k + i) := by
  rw [wb_cu k hk]
  have e : (x.toUInt64 >>> UInt64.ofNat k).toInt64.toBitVec = x.toBitVec >>> k := by
    apply BitVec.eq_of_toNat_eq
    show (x.toUInt64 >>> UInt64.ofNat k).toNat = _
    rw [UInt64.toNat_shiftRight, u_tn (show k < 2 ^ 64 by omega), Nat.mod_eq_of_lt hk, BitVec.toNat_ushiftRight]
    rfl
  unfold pq_b
  rw [e, BitVec.getLsbD_ushiftRight]
theorem pq_byte (y : Int32) {i : Nat} (hi : i < 64) : pq_b ((y &&& 255).toInt64) i = (decide (i < 8) && bt y i) := by
  have e : ∀ j, (y &&& 255).toBitVec.getLsbD j = (bt y j && decide (j < 8)) := fun j => by rw [← b_255, ← b_and]; rfl
  unfold pq_b
  rw [Int32.toBitVec_toInt64, BitVec.getLsbD_signExtend, BitVec.msb_eq_getLsbD_last, e, e]
  rcases Nat.lt_or_ge i 32 with h | h
  · simp [hi, h, Bool.and_comm]
  · simp [Nat.not_lt.mpr h, show ¬ i < 8 by omega]
theorem pq_toI (x : Int64) {i : Nat} (hi : i < 32) : bt x.toInt32 i = pq_b x i := by
  unfold bt pq_b
  rw [Int64.toBitVec_toInt32, BitVec.getLsbD_signExtend]
  simp [hi, show i < 64 by omega]
/-- the bytes when split(n) is done -/
def pq_fin (a : Nat → Int32) (n j : Nat) : Int32 := if j < n then a j else if j = n then 1 else 0
theorem pq_fin_lt {a : Nat → Int32} {n j : Nat} (h : j < n) : pq_fin a n j = a j := if_pos h
theorem pq_fin_eq {a : Nat → Int32} {n j : Nat} (h : j = n) : pq_fin a n j = 1 := by unfold pq_fin; rw [if_neg (by omega), if_pos h]
theorem pq_fin_gt {a : Nat → Int32} {n j : Nat} (h : n < j) : pq_fin a n j = 0 := by unfold pq_fin; rw [if_neg (by omega), if_neg (by omega)]
/-- bit i of limb t over the bytes f -/
def pq_lim (f : Nat → Int32) (t i : Nat) : Bool := decide (i < 26) && bt (f ((26 * t + i) / 8)) ((26 * t + i) % 8)
/-- bit i of the component's accumulator behind j of the five bytes from f on -/
def pq_acc (b : Nat → Int32) (f j i : Nat) : Bool := decide (i < 8 * j) && (decide (f + i / 8 ≤ 16) && bt (b (f + i / 8)) (i % 8))
theorem pq_acc_0 (b : Nat → Int32) (f i : Nat) : pq_acc b f 0 i = false := by
  unfold pq_acc
  rw [decide_eq_false (by omega)]
  rfl
theorem pq_acc_n (b : Nat → Int32) {f j i : Nat} (h : 16 < f + j) : pq_acc b f j i = pq_acc b f (j + 1) i := by
  unfold pq_acc
  rcases Nat.lt_or_ge i (8 * j) with h1 | h1
  · rw [decide_eq_true h1, decide_eq_true (show i < 8 * (j + 1) by omega)]
  · rw [decide_eq_false (show ¬ i < 8 * j by omega), decide_eq_false (show ¬ f + i / 8 ≤ 16 by omega)]
    simp
theorem pq_acc_s (b : Nat → Int32) {f j i : Nat} (h : f + j ≤ 16) : (pq_acc b f j i || (decide (8 * j ≤ i) && (decide (i - 8 * j < 8) && bt (b (f + j)) (i - 8 * j)))) = pq_acc b f (j + 1) i := by
  unfold pq_acc
  rcases Nat.lt_or_ge i (8 * j) with h1 | h1
  · rw [decide_eq_true h1, decide_eq_true (show i < 8 * (j + 1) by omega), decide_eq_false (show ¬ 8 * j ≤ i by omega)]
    simp
  · rcases Nat.lt_or_ge i (8 * (j + 1)) with h2 | h2
    · have e1 : i / 8 = j := by omega
      have e2 : i % 8 = i - 8 * j := by omega
      rw [e1, e2, decide_eq_false (show ¬ i < 8 * j by omega), decide_eq_true h2, decide_eq_true h1, decide_eq_true h, decide_eq_true (show i - 8 * j < 8 by omega)]
      simp
    · rw [decide_eq_false (show ¬ i < 8 * j by omega), decide_eq_false (show ¬ i < 8 * (j + 1) by omega), decide_eq_false (show ¬ i - 8 * j < 8 by omega)]
      simp
theorem pq_acc_lim (b : Nat → Int32) {t i : Nat} (ht : t < 5) : (decide (i < 26) && pq_acc b (26 * t / 8) 5 (26 * t % 8 + i)) = pq_lim b t i := by
  unfold pq_acc pq_lim
  rcases Nat.lt_or_ge i 26 with h | h
  · have e1 : 26 * t / 8 + (26 * t % 8 + i) / 8 = (26 * t + i) / 8 := by omega
    have e2 : (26 * t % 8 + i) % 8 = (26 * t + i) % 8 := by omega
    rw [e1, e2, decide_eq_true (show 26 * t % 8 + i < 8 * 5 by omega), decide_eq_true (show (26 * t + i) / 8 ≤ 16 by omega)]
    simp
  · rw [decide_eq_false (show ¬ i < 26 by omega)]
    rfl
/-- a limb looks at bytes 0 .. 16 alone, at their low eight bits alone -/
theorem pq_lim_c {f g : Nat → Int32} (h : ∀ j, j < 17 → f j = g j &&& 255) {t i : Nat} (ht : t < 5) : pq_lim f t i = pq_lim g t i := by
  unfold pq_lim
  rcases Nat.lt_or_ge i 26 with hi | hi
  · rw [h _ (show (26 * t + i) / 8 < 17 by omega), b_and, b_255, decide_eq_true (show (26 * t + i) % 8 < 8 by omega), Bool.and_true]
  · rw [decide_eq_false (show ¬ i < 26 by omega)]
    rfl
theorem pq_lim_e {f g : Nat → Int32} (h : ∀ j, j < 17 → f j = g j) {t i : Nat} (ht : t < 5) : pq_lim f t i = pq_lim g t i := by
  unfold pq_lim
  rcases Nat.lt_or_ge i 26 with hi | hi
  · rw [h _ (show (26 * t + i) / 8 < 17 by omega)]
  · rw [decide_eq_false (show ¬ i < 26 by omega)]
    rfl
/-- one bit of the reference: bit s of x, put at place o -/
theorem pq_b1 : ∀ i, i < 32 → bt 1 i = decide (i = 0) := by decide +kernel
theorem pq_one (x : Int32) {s o i : Nat} (hs : s < 8) (ho : o < 26) (hi : i < 32) : bt (((x >>> (nI s &&& 31)) &&& 1) <<< (nI o &&& 31)) i = (decide (i = o) && bt x s) := by
  rw [b_shl o (by omega) _ hi, b_and, pq_b1 (i - o) (by omega)]
  rcases Nat.lt_trichotomy i o with h | h | h
  · rw [decide_eq_false (show ¬ o ≤ i by omega), decide_eq_false (show ¬ i = o by omega)]
    rfl
  · subst h
    rw [b_sshr s (by omega) _ (by omega), Nat.sub_self, if_pos (by omega)]
    simp
  · rw [decide_eq_false (show ¬ i - o = 0 by omega), decide_eq_false (show ¬ i = o by omega)]
    simp
end
section
/-! the component's split: three loops -/
theorem pq_x71 (post : Int32 → SX → Prop) (J : Int32 → (Nat → Int32) → (Nat → Int32) → Prop) {t f s : Nat} (ht : t < 5) (hf : f < 17) (hs : s < 8) (b h : Nat → Int32)
    (K : ∀ w : Int32, (∀ i, i < 32 → bt w i = (decide (i < 26) && pq_acc b f 5 (s + i))) → J (nI (t + 1)) b (upd h t w)) :
    ∀ (d j : Nat) (acc : Int64), j + d = 5 → (∀ i, i < 64 → pq_b acc i = pq_acc b f j i) → wX_split_71 post J (nI t) (nI f) (nI s) b h (d + 1) acc (nI j) := by
  intro d
  induction d with
  | zero =>
    intro j acc hj ha
    have e : j = 5 := by omega
    subst e
    refine pk_le 5 5 (fun _ => ⟨vp_in_nI ht (by decide), ?_⟩) (fun z => absurd z (by decide))
    rw [nI_clamp (show t < 2 ^ 31 by omega)]
    refine nm_e (nm_r (nI_1 t) (K _ (fun i hi => ?_)))
    rw [pq_toI _ hi, pq_and, pq_ushr _ (show s < 64 by omega), pq_mask i hi, Bool.and_comm]
    rcases Nat.lt_or_ge i 26 with z | z
    · rw [ha _ (by omega)]
    · rw [decide_eq_false (show ¬ i < 26 by omega)]
      rfl
  | succ d ih =>
    intro j acc hj ha
    refine pk_le 5 j (fun z => absurd z (by omega)) (fun _ => nm_r (nI_add f j) ?_)
    refine pk_lt 16 (f + j) (fun z => nm_r (nI_1 j) (ih (j + 1) acc (by omega) (fun i hi => ?_))) (fun z => ⟨vp_in_nI (by omega) (by decide), ?_⟩)
    · rw [ha i hi, pq_acc_n b z]
    · rw [nI_clamp (show f + j < 2 ^ 31 by omega)]
      refine nm_e (nm_r (nI_1 j) (ih (j + 1) _ (by omega) (fun i hi => ?_)))
      rw [pq_or, ha i hi, show (8 * nI j) = nI (8 * j) from pk_mul 8 j, pq_shl _ (show 8 * j < 64 by omega) hi, pq_byte _ (by omega), pq_acc_s b z]
theorem pq_x44 (post : Int32 → SX → Prop) (b : Nat → Int32) (K : ∀ h : Nat → Int32, (∀ t, t < 5 → ∀ i, i < 32 → bt (h t) i = pq_lim b t i) → post (h 4) (b, h)) :
    ∀ (d t : Nat) (h : Nat → Int32), t + d = 5 → (∀ q, q < t → ∀ i, i < 32 → bt (h q) i = pq_lim b q i) → wX_split_44 post (d + 1) (nI t) b h := by
  intro d
  induction d with
  | zero =>
    intro t h ht hh
    have e : t = 5 := by omega
    subst e
    exact pk_le 5 5 (fun _ => K h hh) (fun z => absurd z (by decide))
  | succ d ih =>
    intro t h ht hh
    refine pk_le 5 t (fun z => absurd z (by omega)) (fun _ => nm_r (e' := nI (26 * t)) (pk_mul 26 t) (nm_r (e' := nI (26 * t / 2 ^ 3)) (pk_shrN (by omega) _ 3 (by decide)) (nm_r (e' := nI (26 * t % 2 ^ 3)) (pk_andN (by omega) 3 (by decide)) ⟨6, ?_⟩)))
    refine pq_x71 post _ (t := t) (f := 26 * t / 8) (s := 26 * t % 8) (by omega) (by omega) (by omega) b h (fun w hw => ih (t + 1) _ (by omega) (fun q hq i hi => ?_)) 5 0 0 rfl (fun i hi => ?_)
    · by_cases e : q = t
      · subst e
        rw [pk_us, hw i hi, pq_acc_lim b (by omega)]
      · rw [pk_un e, hh q (by omega) i hi]
    · rw [pq_0, pq_acc_0]
theorem pq_x23 (post : Int32 → SX → Prop) (a h : Nat → Int32) {n : Nat} (K : ∀ b : Nat → Int32, (∀ j, j < 17 → b j = pq_fin a n j) → ∃ n44 : Nat, wX_split_44 post n44 0 b h) :
    ∀ (d k : Nat) (b : Nat → Int32), k + d = 17 → n < k → (∀ j, j < k → b j = pq_fin a n j) → wX_split_23 post (d + 1) (nI k) b h := by
  intro d
  induction d with
  | zero =>
    intro k b hk hn hb
    have e : k = 17 := by omega
    subst e
    exact pk_lt 16 17 (fun _ => K b hb) (fun z => absurd z (by decide))
  | succ d ih =>
    intro k b hk hn hb
    refine pk_lt 16 k (fun z => absurd z (by omega)) (fun _ => ⟨vp_in_nI (by omega) (by decide), ?_⟩)
    rw [nI_clamp (show k < 2 ^ 31 by omega)]
    refine nm_e (nm_r (nI_1 k) (ih (k + 1) _ (by omega) (by omega) (fun j hj => ?_)))
    by_cases e : j = k
    · subst e
      rw [pk_us, pq_fin_gt hn]
    · rw [pk_un e, hb j (by omega)]
theorem pq_xsplit (post : Int32 → SX → Prop) (a h : Nat → Int32) {n : Nat} (hn : n ≤ 16)
    (K : ∀ b h' : Nat → Int32, (∀ j, j < 17 → b j = pq_fin a n j) → (∀ t, t < 5 → ∀ i, i < 32 → bt (h' t) i = pq_lim b t i) → post (h' 4) (b, h')) :
    ∃ n23 : Nat, wX_split_23 post n23 (nI (n + 1)) (upd a n 1) h := by
  refine ⟨16 - n + 1, pq_x23 post a h (n := n) (fun b hb => ⟨6, ?_⟩) (16 - n) (n + 1) _ (by omega) (by omega) (fun j hj => ?_)⟩
  · exact pq_x44 post b (fun h' hh => K b h' hb hh) 5 0 h rfl (fun q hq => absurd hq (by omega))
  · by_cases e : j = n
    · rw [e, pk_us, pq_fin_eq rfl]
    · rw [pk_un e, pq_fin_lt (by omega)]
end
section
/-! the reference's split: one loop over 130 bits -/
theorem pq_y74 (post : Int32 → SY → Prop) (J : Int32 → (Nat → Int32) → (Nat → Int32) → Prop) {n k : Nat} (hk : k < 130) {g b l : Nat → Int32} (hb : b (k / 8) = g (k / 8))
    (hl : ∀ t, t < 5 → 26 * t < k + 1 → ∀ i, i < 32 → bt (l t) i = (decide (26 * t + i < k) && pq_lim g t i))
    (K : ∀ l' : Nat → Int32, (∀ t, t < 5 → 26 * t < k + 1 → ∀ i, i < 32 → bt (l' t) i = (decide (26 * t + i < k + 1) && pq_lim g t i)) → J (nI (k + 1)) b l') :
    wY_split_74 post J (nI n) (nI k) (nI (k / 8)) (nI (k / 26)) (nI (k % 26)) b l := by
  have h5 : vp_in (nI (k / 26)) 5 := vp_in_nI (by omega) (by decide)
  refine And.intro h5 (And.intro (vp_in_nI (by omega) (by decide)) (And.intro h5 ?_))
  rw [nI_clamp (show k / 26 < 2 ^ 31 by omega), nI_clamp (show k / 8 < 2 ^ 31 by omega), show nI k &&& 7 = nI (k % 8) from pk_andN (by omega) 3 (by decide)]
  refine nm_e (nm_r (nI_1 k) (K _ (fun t ht htk i hi => ?_)))
  by_cases e : t = k / 26
  · rw [e, pk_us, b_or, ← e, hl t ht htk i hi, pq_one _ (by omega) (by omega) hi, hb]
    unfold pq_lim
    by_cases eo : i = k % 26
    · have e1 : 26 * t + i = k := by omega
      rw [e1, decide_eq_true eo, decide_eq_true (show i < 26 by omega), decide_eq_false (show ¬ k < k by omega), decide_eq_true (show k < k + 1 by omega)]
      simp
    · rw [decide_eq_false eo]
      by_cases z : 26 * t + i < k
      · rw [decide_eq_true z, decide_eq_true (show 26 * t + i < k + 1 by omega)]
        simp
      · rw [decide_eq_false z, decide_eq_false (show ¬ 26 * t + i < k + 1 by omega)]
        simp
  · rw [pk_un e, hl t ht htk i hi]
    rcases Nat.lt_or_ge i 26 with h | h
    · rw [decide_eq_true (show 26 * t + i < k by omega), decide_eq_true (show 26 * t + i < k + 1 by omega)]
    · unfold pq_lim
      rw [decide_eq_false (show ¬ i < 26 by omega)]
      simp
theorem pq_y49 (post : Int32 → SY → Prop) (J : Int32 → (Nat → Int32) → (Nat → Int32) → Prop) {n k : Nat} (hk : k < 130) {g b l : Nat → Int32} (hb : b (k / 8) = g (k / 8))
    (hl : ∀ t, t < 5 → 26 * t < k → ∀ i, i < 32 → bt (l t) i = (decide (26 * t + i < k) && pq_lim g t i))
    (K : ∀ l' : Nat → Int32, (∀ t, t < 5 → 26 * t < k + 1 → ∀ i, i < 32 → bt (l' t) i = (decide (26 * t + i < k + 1) && pq_lim g t i)) → J (nI (k + 1)) b l') :
    wY_split_49 post J (nI n) (nI k) (nI (k / 8)) b l := by
  have h26 : ¬ (26 : Int32) = 0 := by decide
  refine And.intro h26 (nm_r (e' := nI (k / 26)) (pk_div (d := 26) (by omega) (by decide) (by decide)) (And.intro h26 (nm_r (e' := nI (k % 26)) (pk_rem (d := 26) (by omega) (by decide) (by decide)) ?_)))
  refine pk_eq (k % 26) 0 (fun e => ⟨vp_in_nI (by omega) (by decide), ?_⟩) (fun e => ?_)
  · rw [nI_clamp (show k / 26 < 2 ^ 31 by omega)]
    refine nm_e (pq_y74 post J hk (g := g) hb (fun t ht htk i hi => ?_) K)
    by_cases z : t = k / 26
    · rw [z, pk_us, b_0, decide_eq_false (show ¬ 26 * (k / 26) + i < k by omega)]
      rfl
    · rw [pk_un z]
      exact hl t ht (by omega) i hi
  · exact pq_y74 post J hk (g := g) hb (fun t ht htk i hi => hl t ht (by omega) i hi) K
theorem pq_n1 : vp_nar .byte 1 = 1 := by rw [vp_nar_byte]; decide
theorem pq_n0 : vp_nar .byte 0 = 0 := by rw [vp_nar_byte]; decide
/-- the reference's bytes behind k bits -/
def pq_yb (a : Nat → Int32) (n k : Nat) (b : Nat → Int32) : Prop := ∀ j, j < 17 → b j = if 8 * j < k then pq_fin a n j else a j
theorem pq_yb_u {a b : Nat → Int32} {n k : Nat} {x : Int32} (h : pq_yb a n k b) (hx : x = pq_fin a n (k / 8)) : pq_yb a n (k + 1) (upd b (k / 8) x) := by
  intro j hj
  by_cases e : j = k / 8
  · rw [e, pk_us, if_pos (by omega), hx]
  · rw [pk_un e, h j hj]
    by_cases z : 8 * j < k
    · rw [if_pos z, if_pos (by omega)]
    · rw [if_neg z, if_neg (by omega)]
theorem pq_yb_k {a b : Nat → Int32} {n k : Nat} (h : pq_yb a n k b) (hx : k / 8 < n) : pq_yb a n (k + 1) b := by
  intro j hj
  rw [h j hj]
  by_cases z : 8 * j < k
  · rw [if_pos z, if_pos (by omega)]
  · rw [if_neg z]
    by_cases z2 : 8 * j < k + 1
    · rw [if_pos z2, pq_fin_lt (by omega)]
    · rw [if_neg z2]
theorem pq_yb_r {a b : Nat → Int32} {n k : Nat} (hk : k < 130) (h : pq_yb a n (k + 1) b) : b (k / 8) = pq_fin a n (k / 8) := by
  rw [h (k / 8) (by omega), if_pos (by omega)]
theorem pq_y14 (post : Int32 → SY → Prop) (a : Nat → Int32) {n : Nat} (hn : n ≤ 16)
    (K : ∀ b l : Nat → Int32, (∀ j, j < 17 → b j = pq_fin a n j) → (∀ t, t < 5 → ∀ i, i < 32 → bt (l t) i = pq_lim (pq_fin a n) t i) → post (l 4) (b, l)) :
    ∀ (d k : Nat) (b l : Nat → Int32), k + d = 130 → pq_yb a n k b → (∀ t, t < 5 → 26 * t < k → ∀ i, i < 32 → bt (l t) i = (decide (26 * t + i < k) && pq_lim (pq_fin a n) t i)) → wY_split_14 post (nI n) (d + 1) (nI k) b l := by
  intro d
  induction d with
  | zero =>
    intro k b l hk hb hl
    have e : k = 130 := by omega
    subst e
    refine pk_le 130 130 (fun _ => K b l (fun j hj => ?_) (fun t ht i hi => ?_)) (fun z => absurd z (by decide))
    · rw [hb j hj, if_pos (by omega)]
    · rw [hl t ht (by omega) i hi]
      rcases Nat.lt_or_ge i 26 with z | z
      · rw [decide_eq_true (show 26 * t + i < 130 by omega), Bool.true_and]
      · unfold pq_lim
        rw [decide_eq_false (show ¬ i < 26 by omega)]
        simp
  | succ d ih =>
    intro k b l hk hb hl
    have hk' : k < 130 := by omega
    have N : ∀ b' : Nat → Int32, pq_yb a n (k + 1) b' → wY_split_49 post (wY_split_14 post (nI n) (d + 1)) (nI n) (nI k) (nI (k / 8)) b' l := fun b' hb' =>
      pq_y49 post _ hk' (g := pq_fin a n) (pq_yb_r hk' hb') hl (fun l' hl' => ih (k + 1) b' l' (by omega) hb' hl')
    have hin : vp_in (nI (k / 8)) 17 := vp_in_nI (by omega) (by decide)
    refine pk_le 130 k (fun z => absurd z (by omega)) (fun _ => nm_r (e' := nI (k / 8)) (pk_shrN (by omega) _ 3 (by decide)) ?_)
    refine pk_eq (k / 8) n (fun e => ⟨hin, ?_⟩) (fun e => ?_)
    · rw [nI_clamp (show k / 8 < 2 ^ 31 by omega)]
      refine nm_r (congrArg (upd b (k / 8)) pq_n1) ?_
      exact pk_le (k / 8) n (fun _ => N _ (pq_yb_u hb (pq_fin_eq e).symm)) (fun z => absurd e (by omega))
    · refine pk_le (k / 8) n (fun z => N _ (pq_yb_k hb (by omega))) (fun z => ⟨hin, ?_⟩)
      rw [nI_clamp (show k / 8 < 2 ^ 31 by omega)]
      exact nm_r (congrArg (upd b (k / 8)) pq_n0) (N _ (pq_yb_u hb (pq_fin_gt z).symm))
theorem pq_ysplit (post : Int32 → SY → Prop) (a l : Nat → Int32) {n : Nat} (hn : n ≤ 16)
    (K : ∀ b l' : Nat → Int32, (∀ j, j < 17 → b j = pq_fin a n j) → (∀ t, t < 5 → ∀ i, i < 32 → bt (l' t) i = pq_lim (pq_fin a n) t i) → post (l' 4) (b, l')) :
    ∃ n14 : Nat, wY_split_14 post (nI n) n14 0 a l :=
  ⟨131, pq_y14 post a hn K 130 0 a l rfl (fun j _ => (if_neg (by omega)).symm) (fun t _ z => absurd z (by omega))⟩
end
section
/-- the component's bytes are the reference's, read unsigned; the limbs are the same -/
def i_Rel (_ : Nat) (u : SX) (v : SY) : Prop := (∀ j, j < 17 → u.1 j = v.1 j &&& 255) ∧ (∀ t, t < 5 → u.2 t = v.2 t)
theorem i_up {k : Nat} {u : SX} {v : SY} (h : i_Rel k u v) : i_Rel (k + 3) u v := h
theorem i_vc0 : wpX_init (fun u => wpY_init (fun v => i_Rel 0 u v)) := ⟨fun _ _ => (by decide : (0 : Int32) = 0 &&& 255), fun _ _ => rfl⟩
theorem i_vc_put {k : Nat} {u : SX} {v : SY} (I : i_Rel k u v) (hk : k + 3 ≤ 1536) (v1 : Int32) (v2 : Int32) : wpX_put (fun r u' => wpY_put (fun r' v' => r' = r ∧ i_Rel (k + 3) u' v') v v1 v2) u v1 v2 := by
  obtain ⟨a, h⟩ := u
  obtain ⟨b, l⟩ := v
  by_cases h0 : v1 < 0
  · exact br_t h0 (br_t h0 ⟨rfl, I⟩)
  · by_cases h15 : v1 ≤ 15
    · obtain ⟨n, hn, e⟩ := nI_of2 (M := 15) (n := 15) (by decide) h0 h15
      have hi : vp_in v1 17 := by rw [e]; exact vp_in_nI (by omega) (by decide)
      refine br_f h0 (br_t h15 ⟨hi, nm_e (br_f h0 (br_t h15 ⟨hi, nm_e ⟨rfl, fun j hj => ?_, I.2⟩⟩))⟩)
      show upd a v1.toNatClampNeg (v2 &&& 255) j = upd b v1.toNatClampNeg (vp_nar .byte v2.toInt8.toInt32) j &&& 255
      by_cases z : j = v1.toNatClampNeg
      · rw [z, pk_us, pk_us, pk_vb, bp_b]
      · rw [pk_un z, pk_un z]
        exact I.1 j hj
    · exact br_f h0 (br_f h15 (br_f h0 (br_f h15 ⟨rfl, I⟩)))
theorem pq_fin_r {a b : Nat → Int32} (h : ∀ j, j < 17 → a j = b j &&& 255) {n j : Nat} (hj : j < 17) : pq_fin a n j = pq_fin b n j &&& 255 := by
  rcases Nat.lt_trichotomy j n with z | z | z
  · rw [pq_fin_lt z, pq_fin_lt z, h j hj]
  · rw [pq_fin_eq z, pq_fin_eq z]
    decide
  · rw [pq_fin_gt z, pq_fin_gt z]
    decide
theorem i_vc_split {k : Nat} {u : SX} {v : SY} (I : i_Rel k u v) (hk : k + 3 ≤ 1536) (v1 : Int32) : wpX_split (fun r u' => wpY_split (fun r' v' => r' = r ∧ i_Rel (k + 3) u' v') v v1) u v1 := by
  obtain ⟨a, h⟩ := u
  obtain ⟨b, l⟩ := v
  by_cases h0 : v1 < 0
  · exact br_t h0 (br_t h0 ⟨rfl, I⟩)
  · by_cases h16 : v1 ≤ 16
    · obtain ⟨n, hn, e⟩ := nI_of2 (M := 16) (n := 16) (by decide) h0 h16
      subst e
      refine br_f h0 (br_t h16 ⟨vp_in_nI (by omega) (by decide), ?_⟩)
      rw [nI_clamp (show n < 2 ^ 31 by omega)]
      refine nm_e (nm_r (nI_1 n) (pq_xsplit _ a h hn (fun b1 h1 hb1 hh1 => ?_)))
      refine br_f h0 (br_t h16 (pq_ysplit _ b l hn (fun b2 l2 hb2 hl2 => ?_)))
      have R : ∀ j, j < 17 → b1 j = pq_fin b n j &&& 255 := fun j hj => by rw [hb1 j hj, pq_fin_r I.1 hj]
      have L : ∀ t, t < 5 → h1 t = l2 t := fun t ht => b_ext (fun i hi => by rw [hh1 t ht i hi, hl2 t ht i hi, pq_lim_c R ht])
      exact ⟨(L 4 (by decide)).symm, fun j hj => by show b1 j = b2 j &&& 255; rw [R j hj, hb2 j hj], L⟩
    · exact br_f h0 (br_f h16 (br_f h0 (br_f h16 ⟨rfl, I⟩)))
theorem pq_sw (y m : Int32) : vp_nar .byte (y &&& m).toInt8.toInt32 &&& 255 = (y &&& 255) &&& m := by
  rw [pk_vb, bp_b, Int32.and_assoc, Int32.and_assoc, Int32.and_comm m 255]
theorem pq_cl {x y : Int32} (m : Int32) (h : x = y &&& 255) : x &&& m = vp_nar .byte (y &&& m).toInt8.toInt32 &&& 255 := by rw [pq_sw, h]
theorem pq_15n : ∀ j, j < 16 → (nI j).toInt8.toInt32 = nI j := by decide +kernel
theorem pq_15 (y : Int32) : (y &&& 15).toInt8.toInt32 = (y &&& 255) &&& 15 := by
  obtain ⟨j, hj, e⟩ := pk_andE y (m := 15) 4 (by decide)
  rw [Int32.and_assoc, show (255 : Int32) &&& 15 = 15 from by decide, e, pq_15n j hj]
theorem i_vc_clamp {k : Nat} {u : SX} {v : SY} (I : i_Rel k u v) (hk : k + 3 ≤ 1536) : wpX_clamp (fun r u' => wpY_clamp (fun r' v' => r' = r ∧ i_Rel (k + 3) u' v') v) u := by
  obtain ⟨a, h⟩ := u
  obtain ⟨b, l⟩ := v
  have R : ∀ j, j < 17 → a j = b j &&& 255 := I.1
  intro a1 e1 a2 e2 a3 e3 a4 e4 a5 e5 a6 e6 a7 e7 b1 d1 b2 d2 b3 d3 b4 d4 b5 d5 b6 d6 b7 d7
  subst e1 e2 e3 e4 e5 e6 e7 d1 d2 d3 d4 d5 d6 d7
  refine ⟨?_, fun j hj => ?_, I.2⟩
  · have e : (b 15 &&& 15).toInt8.toInt32 = a 15 &&& 15 := by rw [pq_15, R 15 (by decide)]
    exact e
  · have c : j = 0 ∨ j = 1 ∨ j = 2 ∨ j = 3 ∨ j = 4 ∨ j = 5 ∨ j = 6 ∨ j = 7 ∨ j = 8 ∨ j = 9 ∨ j = 10 ∨ j = 11 ∨ j = 12 ∨ j = 13 ∨ j = 14 ∨ j = 15 ∨ j = 16 := by omega
    rcases c with rfl | rfl | rfl | rfl | rfl | rfl | rfl | rfl | rfl | rfl | rfl | rfl | rfl | rfl | rfl | rfl | rfl <;> first | exact R _ hj | (have e := pq_cl 15 (R _ hj); exact e) | (have e := pq_cl 252 (R _ hj); exact e)
theorem i_vc_limb {k : Nat} {u : SX} {v : SY} (I : i_Rel k u v) (hk : k + 3 ≤ 1536) (v1 : Int32) : wpX_limb (fun r => wpY_limb (fun r' => r' = r ∧ i_Rel (k + 3) u v) v v1) u v1 := by
  obtain ⟨a, h⟩ := u
  obtain ⟨b, l⟩ := v
  by_cases h0 : v1 < 0
  · exact br_t h0 (br_t h0 ⟨rfl, I⟩)
  · by_cases h4 : v1 ≤ 4
    · obtain ⟨n, hn, e⟩ := nI_of2 (M := 4) (n := 4) (by decide) h0 h4
      have hi : vp_in v1 5 := by rw [e]; exact vp_in_nI (by omega) (by decide)
      refine br_f h0 (br_t h4 ⟨hi, br_f h0 (br_t h4 ⟨hi, ?_, I⟩)⟩)
      rw [e, nI_clamp (show n < 2 ^ 31 by omega)]
      exact (I.2 n (by omega)).symm
    · exact br_f h0 (br_f h4 (br_f h0 (br_f h4 ⟨rfl, I⟩)))
end
