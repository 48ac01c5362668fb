section
/-! the pure picture: n bytes (values t j below 256), the running sums of both programs -/
/-- first sum after i bytes -/
def ra_A (t : Nat → Nat) : Nat → Nat
  | 0 => 1
  | i + 1 => ra_A t i + t i
/-- the component's second sum after i bytes -/
def ra_B (t : Nat → Nat) : Nat → Nat
  | 0 => 0
  | i + 1 => ra_B t i + (ra_A t i + t i)
/-- the twin's second sum after i of n bytes -/
def ra_C (t : Nat → Nat) (n : Nat) : Nat → Nat
  | 0 => n
  | i + 1 => ra_C t n i + t i * (n - i)
/-- an array cell holds the byte of value v as a signed byte -/
def ra_By (x : Int32) (v : Nat) : Prop := v < 256 ∧ x = (nI v).toInt8.toInt32
theorem ra_AB {t : Nat → Nat} {n : Nat} (ht : ∀ j, j < n → t j < 256) (i : Nat) (hi : i ≤ n) : ra_A t i ≤ 1 + 255 * i := by
  induction i with
  | zero => exact Nat.le_refl 1
  | succ i ih =>
    have h1 := ih (by omega)
    have h2 := ht i (by omega)
    show ra_A t i + t i ≤ _
    omega
theorem ra_BB {t : Nat → Nat} {n : Nat} (hn : n ≤ 7) (ht : ∀ j, j < n → t j < 256) (i : Nat) (hi : i ≤ n) : ra_B t i ≤ 1786 * i := by
  induction i with
  | zero => exact Nat.le_refl 0
  | succ i ih =>
    have h1 := ih (by omega)
    have h2 : ra_A t i + t i ≤ 1 + 255 * (i + 1) := ra_AB ht (i + 1) hi
    show ra_B t i + (ra_A t i + t i) ≤ _
    omega
theorem ra_CE (t : Nat → Nat) (n i : Nat) (hi : i ≤ n) : ra_C t n i = ra_B t i + ra_A t i * (n - i) := by
  induction i with
  | zero =>
    show n = 0 + 1 * (n - 0)
    omega
  | succ i ih =>
    have h1 := ih (by omega)
    obtain ⟨k, hk⟩ : ∃ k, n = i + 1 + k := ⟨n - (i + 1), by omega⟩
    show ra_C t n i + t i * (n - i) = ra_B t i + (ra_A t i + t i) + (ra_A t i + t i) * (n - (i + 1))
    rw [h1, show n - i = k + 1 by omega, show n - (i + 1) = k by omega]
    generalize ra_A t i = a
    generalize ra_B t i = b
    generalize t i = c
    rw [Nat.mul_add, Nat.mul_add, Nat.add_mul]
    omega
theorem ra_CB (t : Nat → Nat) (n : Nat) : ra_C t n n = ra_B t n := by
  rw [ra_CE t n n (Nat.le_refl n), Nat.sub_self, Nat.mul_zero, Nat.add_zero]
theorem ra_b8 : ∀ v, v < 256 → (Int8.ofBitVec (BitVec.ofNat 8 v)).toInt32 = (nI v).toInt8.toInt32 := by decide +kernel
theorem ra_by (z : Int8) : ra_By z.toInt32 z.toBitVec.toNat := by
  refine ⟨z.toBitVec.isLt, ?_⟩
  rw [← ra_b8 _ z.toBitVec.isLt]
  exact congrArg Int8.toInt32 (Int8.toBitVec_inj.mp (by show z.toBitVec = BitVec.ofNat 8 z.toBitVec.toNat; rw [BitVec.ofNat_toNat, BitVec.setWidth_eq]))
theorem ra_pos : ∀ v, v < 256 → 0 ≤ (nI v).toInt8.toInt32 → (nI v).toInt8.toInt32.toInt64 = lN v := by decide +kernel
theorem ra_neg : ∀ v, v < 256 → ¬ 0 ≤ (nI v).toInt8.toInt32 → (nI v).toInt8.toInt32.toInt64 + 256 = lN v := by decide +kernel
theorem ra_or (a b : Nat) : nI a ||| nI b = nI (a ||| b) := by
  apply Int32.toBitVec_inj.1
  show BitVec.ofNat 32 a ||| BitVec.ofNat 32 b = BitVec.ofNat 32 (a ||| b)
  apply BitVec.eq_of_getLsbD_eq
  intro i hi
  simp [hi]
/-- how the component joins its two sums -/
theorem ra_join {a b : Nat} (ha : a < 65536) (hb : b < 65536) : (nI b <<< ((16 : Int32) &&& 31)) ||| nI a = nI (b * 65536 + a) := by
  rw [pk_shlN ((16 : Int32) &&& 31) 16 (by decide) (by omega), ra_or]
  refine congrArg nI ?_
  rw [← Nat.shiftLeft_eq, ← Nat.shiftLeft_add_eq_or_of_lt (show a < 2 ^ 16 by omega), Nat.shiftLeft_eq]
/-- how the twin joins its two sums -/
theorem ra_joinL {a b : Nat} (ha : a < 65521) (hb : b < 65521) : (((lN b - lN b / 65521 * 65521) * 65536) + (lN a - lN a / 65521 * 65521)).toInt32 = nI (b * 65536 + a) := by
  have h1 : lN b - lN b / 65521 * 65521 = lN b := by
    have h := pk_lRem (a := b) (b := 65521) (by omega) (by omega) (by omega)
    rw [Nat.mod_eq_of_lt hb] at h
    exact h
  have h2 : lN a - lN a / 65521 * 65521 = lN a := by
    have h := pk_lRem (a := a) (b := 65521) (by omega) (by omega) (by omega)
    rw [Nat.mod_eq_of_lt ha] at h
    exact h
  rw [h1, h2]
  show (lN b * lN 65536 + lN a).toInt32 = _
  rw [lN_mul, lN_add, lN_i]
/-- a step of the component's remainders: nothing is taken off -/
theorem ra_rem {a : Nat} (ha : a < 65521) : nI a - nI a / 65521 * 65521 = nI a := by
  have h := pk_rem (a := a) (d := 65521) (by omega) (by omega) (by omega)
  rw [Nat.mod_eq_of_lt ha] at h
  exact h
end
section
/-- the bytes that the law makes out of an int, as naturals -/
def ra_T (x : Int32) (j : Nat) : Nat := (x >>> ((4 * nI j) &&& 31)).toInt8.toBitVec.toNat
theorem ra_bytes {post : St1 → Prop} {mc ms : Nat} {x y : Int32} {n : Nat} (hn : n ≤ 7) (hy : y &&& 7 = nI n) (hc : 1 ≤ mc) (hs : n ≤ ms)
    (H : ∀ a, (∀ j, j < n → ra_By (a j) (ra_T x j)) → post (a, n)) : wpL_bytes post mc ms () x y := by
  unfold wpL_bytes
  rw [hy]
  refine ⟨nI_pos (by omega), nm_r (nI_clamp (by omega)) ⟨by omega, hc, by omega, ?_⟩⟩
  exact pk_loop (fun f i s => wL_bytes_9 post mc ms x 1 (0 + n) n f (nI i) s) (fun i s => ∀ j, j < i → ra_By (s j) (ra_T x j)) n 0 (fun _ => 0) (by omega) (fun j hj => absurd hj (by omega))
    (fun f s h => pk_le n n (fun _ => H s h) (fun z => absurd z (by omega)))
    (fun f i s hi h hw => pk_le n i (fun z => absurd z (by omega)) (fun _ => ⟨pk_in i n hi, nm_e (nm_r (nI_1 i) (hw _ (fun j hj => by
      rw [nI_clamp (show i < 2 ^ 31 by omega)]
      by_cases e : j = i
      · rw [e, pk_us]
        exact ra_by _
      · rw [pk_un e]
        exact h j (by omega))))⟩))
theorem ra_X0 {post : Int32 → Prop} {a : Nat → Int32} {n : Nat} {t : Nat → Nat} (hn : n ≤ 7) (ha : ∀ j, j < n → ra_By (a j) (t j))
    (H : post (nI (ra_B t n * 65536 + ra_A t n))) : wpX0_checkSum post (a, n) := by
  have ht : ∀ j, j < n → t j < 256 := fun j hj => (ha j hj).1
  unfold wpX0_checkSum
  refine nm_e ?_
  refine pk_loop (σ := Unit) (fun f i _ => wX0_checkSum_13 post (nI n) a n f (nI (ra_A t i)) (nI (ra_B t i)) (nI i)) (fun _ _ => True) n 0 () (by omega) trivial ?_ ?_
  · intro f _ _
    have b1 := ra_AB ht n (Nat.le_refl n)
    have b2 := ra_BB hn ht n (Nat.le_refl n)
    refine pk_le n n (fun _ => ?_) (fun z => absurd z (by omega))
    rw [ra_join (by omega) (by omega)]
    exact H
  · intro f i _ hi _ hw
    have b1 : ra_A t i + t i ≤ 1 + 255 * (i + 1) := ra_AB ht (i + 1) hi
    have b2 : ra_B t i + (ra_A t i + t i) ≤ 1786 * (i + 1) := ra_BB hn ht (i + 1) hi
    have hb := ha i hi
    have e2 : nI (ra_B t i) + nI (ra_A t i + t i) - (nI (ra_B t i) + nI (ra_A t i + t i)) / 65521 * 65521 = nI (ra_B t i + (ra_A t i + t i)) := by
      rw [nI_add]
      exact ra_rem (by omega)
    refine pk_le n i (fun z => absurd z (by omega)) (fun _ => ⟨pk_in i n hi, nm_r (show a (nI i).toNatClampNeg = (nI (t i)).toInt8.toInt32 by rw [nI_clamp (show i < 2 ^ 31 by omega)]; exact hb.2) ?_⟩)
    unfold wpJxe64f3_toUnsignedInt_4d018_565d2
    rw [sc_k8 _ hb.1]
    dsimp only
    rw [nI_add]
    refine ⟨by decide, nm_r (ra_rem (by omega)) ⟨by decide, nm_r e2 (nm_r (nI_1 i) (hw () trivial))⟩⟩
theorem ra_X1 {post : Int32 → Prop} {a : Nat → Int32} {n : Nat} {t : Nat → Nat} (hn : n ≤ 7) (ha : ∀ j, j < n → ra_By (a j) (t j))
    (H : post (nI (ra_B t n * 65536 + ra_A t n))) : wpX1_checkSum post (a, n) := by
  have ht : ∀ j, j < n → t j < 256 := fun j hj => (ha j hj).1
  unfold wpX1_checkSum
  refine nm_r (nI_l (show n < 2 ^ 31 by omega)) ?_
  refine pk_loop (σ := Unit) (fun f i _ => wX1_checkSum_9 post a n f (lN (ra_A t i)) (lN (ra_C t n i)) (nI i)) (fun _ _ => True) n 0 () (by omega) trivial ?_ ?_
  · intro f _ _
    have b1 := ra_AB ht n (Nat.le_refl n)
    have b2 := ra_BB hn ht n (Nat.le_refl n)
    refine pk_le n n (fun _ => ⟨by decide, by decide, ?_⟩) (fun z => absurd z (by omega))
    rw [ra_CB, ra_joinL (by omega) (by omega)]
    exact H
  · intro f i _ hi _ hw
    have hb := ha i hi
    have hk : ∀ z : Int64, z = lN (t i) → wX1_checkSum_40 post (wX1_checkSum_9 post a n f) (lN (ra_A t i)) (lN (ra_C t n i)) (nI i) z a n := by
      intro z hz
      subst hz
      unfold wX1_checkSum_40
      refine nm_r (lN_add _ _) (nm_r ?_ (nm_r (nI_1 i) (hw () trivial)))
      show lN (ra_C t n i) + lN (t i) * (nI n - nI i).toInt64 = lN (ra_C t n i + t i * (n - i))
      rw [pk_sub (by omega), nI_l (by omega), lN_mul, lN_add]
    refine pk_le n i (fun z => absurd z (by omega)) (fun _ => ⟨pk_in i n hi, ?_⟩)
    rw [nI_clamp (show i < 2 ^ 31 by omega), hb.2]
    exact br_c (fun g => ⟨pk_in i n hi, hk _ (ra_pos _ hb.1 g)⟩) (fun g => ⟨pk_in i n hi, hk _ (ra_neg _ hb.1 g)⟩)
theorem ra_lawOf (x y : Int32) : wpL_lawOf (fun r _ => r = 1) 3 48 () x y := by
  obtain ⟨n, hn, e⟩ := pk_andE y (m := 7) 3 (by decide)
  have hn7 : n ≤ 7 := by omega
  unfold wpL_lawOf
  refine ⟨1, 7, by omega, by omega, ra_bytes hn7 e (by omega) hn7 (fun a ha => ?_)⟩
  refine ra_X0 hn7 ha ?_
  refine ⟨1, 7, by omega, by omega, ra_bytes hn7 e (by omega) hn7 (fun b hb => ?_)⟩
  exact ra_X1 hn7 hb (br_t rfl rfl)
theorem ra_cell {post : Int32 → Prop} {L : Nat} {xs : Nat → Int32} (hL : L ≤ 2) (k : Nat) (hk : k ≤ 1) (H : ∀ r, post r) : wpL_cellAt post L xs () (nI k) :=
  pk_le L k (fun _ => H _) (fun z => ⟨pk_in k L z, H _⟩)
theorem i_vc (xs : Nat → Int32) (L : Nat) (hL : L ≤ 2) : wpL_law (fun r => r = 1) L xs :=
  ra_cell hL 0 (by omega) (fun r1 => ra_cell hL 1 (by omega) (fun r2 => ⟨3, 48, by omega, by omega, ra_lawOf r1 r2⟩))
end
