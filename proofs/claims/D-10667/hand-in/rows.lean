section
/-! bits of an Int64 and of an Int32 (turned out of the kit's rows on bits), and the shifts as they are printed -/
def bw_b (x : Int64) (i : Nat) : Bool := x.toBitVec.getLsbD i
def bw_i (x : Int32) (i : Nat) : Bool := x.toBitVec.getLsbD i
theorem bw_and (x y : Int64) (i : Nat) : bw_b (x &&& y) i = (bw_b x i && bw_b y i) := by
  unfold bw_b
  rw [Int64.toBitVec_and, BitVec.getLsbD_and]
theorem bw_big {x : Int64} {i : Nat} (h : 64 ≤ i) : bw_b x i = false := BitVec.getLsbD_of_ge _ _ h
theorem bw_0 (i : Nat) : bw_b 0 i = false := BitVec.getLsbD_zero
theorem bw_cl : ∀ k, k < 64 → (((nI k).toInt64 &&& 63).toBitVec.smod 64).toNat = k := by decide +kernel
theorem bw_cu : ∀ k, k < 64 → (((nI k).toInt64.toUInt64 &&& Int64.toUInt64 63).toBitVec % 64).toNat = k := by decide +kernel
theorem bw_ci : ∀ k, k < 32 → ((nI k &&& 31).toBitVec.smod 32).toNat = k := by decide +kernel
theorem bw_shl (k : Nat) (hk : k < 64) (x : Int64) {i : Nat} (hi : i < 64) : bw_b (x <<< ((nI k).toInt64 &&& 63)) i = (decide (k ≤ i) && bw_b x (i - k)) := by
  unfold bw_b
  rw [Int64.toBitVec_shiftLeft]
  show (x.toBitVec <<< (((nI k).toInt64 &&& 63).toBitVec.smod 64).toNat).getLsbD i = _
  rw [bw_cl k hk, BitVec.getLsbD_shiftLeft]
  rcases Nat.lt_or_ge i k with h | h
  · simp [h, Nat.not_le.mpr h]
  · simp [hi, h, Nat.not_lt.mpr h]
theorem bw_shr (k : Nat) (hk : k < 64) (x : Int64) (i : Nat) : bw_b ((x.toUInt64 >>> ((nI k).toInt64.toUInt64 &&& Int64.toUInt64 63)).toInt64) i = bw_b x (k + i) := by
  show (x.toUInt64 >>> ((nI k).toInt64.toUInt64 &&& Int64.toUInt64 63)).toBitVec.getLsbD i = x.toUInt64.toBitVec.getLsbD (k + i)
  rw [UInt64.toBitVec_shiftRight]
  show (x.toUInt64.toBitVec >>> (((nI k).toInt64.toUInt64 &&& Int64.toUInt64 63).toBitVec % 64).toNat).getLsbD i = _
  rw [bw_cu k hk, BitVec.getLsbD_ushiftRight]
theorem bw_sshr (k : Nat) (hk : k < 32) (x : Int32) : bw_i (x >>> (nI k &&& 31)) 0 = bw_i x k := by
  unfold bw_i
  rw [Int32.toBitVec_shiftRight]
  show (x.toBitVec.sshiftRight ((nI k &&& 31).toBitVec.smod 32).toNat).getLsbD 0 = _
  rw [bw_ci k hk, BitVec.getLsbD_sshiftRight]
  simp [hk]
theorem bw_sx (x : Int32) {i : Nat} (hi : i < 32) : bw_b x.toInt64 i = bw_i x i := by
  unfold bw_b bw_i
  rw [Int32.toBitVec_toInt64, BitVec.getLsbD_signExtend]
  simp [hi, show i < 64 by omega]
theorem bw_one {w : Nat} (hw : 0 < w) (x : BitVec w) : x &&& 1#w = 1#w ↔ x.getLsbD 0 = true := by
  constructor
  · intro h
    have t := congrArg (fun y => y.getLsbD 0) h
    simpa [hw] using t
  · intro h
    apply BitVec.eq_of_getLsbD_eq
    intro i hi
    cases i with
    | zero => simp [h]
    | succ i => simp
theorem bw_oneL (x : Int64) : (x &&& 1) = 1 ↔ bw_b x 0 = true := by
  rw [← Int64.toBitVec_inj, Int64.toBitVec_and]
  exact bw_one (w := 64) (by decide) x.toBitVec
theorem bw_oneI (x : Int32) : (x &&& 1) = 1 ↔ bw_i x 0 = true := by
  rw [← Int32.toBitVec_inj, Int32.toBitVec_and]
  exact bw_one (w := 32) (by decide) x.toBitVec
theorem bw_testL (x : Int64) {k : Nat} (hk : k < 64) : ((x.toUInt64 >>> ((nI k).toInt64.toUInt64 &&& Int64.toUInt64 63)).toInt64 &&& 1) = 1 ↔ bw_b x k = true := by
  rw [bw_oneL, bw_shr k hk, Nat.add_zero]
theorem bw_testI (x : Int32) {k : Nat} (hk : k < 32) : ((x >>> (nI k &&& 31)) &&& 1) = 1 ↔ bw_i x k = true := by
  rw [bw_oneI, bw_sshr k hk]
/-- the mask of the n lowest bits -/
theorem bw_mask : ∀ n, n < 33 → ∀ i, i < 64 → bw_b (((1 : Int64) <<< ((nI n).toInt64 &&& 63)) - 1) i = decide (i < n) := by decide +kernel
theorem bw_zor (m v : Int64) : ((0 : Int64) &&& m) ||| v = v := by rw [Int64.zero_and, Int64.zero_or]
/-- the value that put writes, bit by bit -/
theorem bw_val (p : Int32) {r : Int64} {n : Nat} (hn : n ≤ 32) (hr : ∀ i, i < 64 → bw_b r i = decide (i < n)) (i : Nat) : bw_b (p.toInt64 &&& r) i = (decide (i < n) && bw_i p i) := by
  rw [bw_and]
  by_cases h : i < n
  · rw [hr i (by omega), bw_sx p (by omega), Bool.and_comm]
  · rw [decide_eq_false h, Bool.false_and]
    rcases Nat.lt_or_ge i 64 with h6 | h6
    · rw [hr i h6, decide_eq_false h, Bool.and_false]
    · rw [bw_big h6, Bool.false_and]
/-- element j of vector k -/
def bw_W (a : Nat → Int64) (k j : Nat) : Bool := bw_b (a (k * 4 + j / 64)) (j % 64)
theorem bw_W0 (k j : Nat) : bw_W (fun _ => 0) k j = false := bw_0 _
/-- what one word's write leaves (the element's place d, n elements), as a picture of all elements -/
theorem bw_put0 {a : Nat → Int64} {k d n : Nat} {p : Int32} {r m : Int64} (hk : k < 6) (hd : d < 256) (hn : n ≤ 32) (hr : ∀ i, i < 64 → bw_b r i = decide (i < n)) (hs : d % 64 + n ≤ 64)
    (e : a = vp_updL (fun _ => 0) (nI (k * 4 + d / 64)).toNatClampNeg (((0 : Int64) &&& m) ||| ((p.toInt64 &&& r) <<< ((nI (d % 64)).toInt64 &&& 63)))) (j : Nat) :
    bw_W a k j = (decide (d ≤ j ∧ j < d + n) && bw_i p (j - d)) := by
  unfold bw_W
  rw [e, nI_clamp (by omega), bw_zor]
  by_cases hq : j / 64 = d / 64
  · rw [hq, pk_uLs, bw_shl (d % 64) (by omega) _ (by omega), bw_val p hn hr]
    by_cases hin : d ≤ j ∧ j < d + n
    · rw [decide_eq_true (show d % 64 ≤ j % 64 by omega), decide_eq_true (show j % 64 - d % 64 < n by omega), decide_eq_true hin, show j % 64 - d % 64 = j - d by omega, Bool.true_and]
    · rw [decide_eq_false hin, Bool.false_and]
      by_cases h : d % 64 ≤ j % 64
      · rw [decide_eq_false (show ¬ j % 64 - d % 64 < n by omega), Bool.false_and, Bool.and_false]
      · rw [decide_eq_false h, Bool.false_and]
  · rw [pk_uLn (by omega), decide_eq_false (by omega), Bool.false_and]
    exact bw_0 _
/-- and what two words' writes leave -/
theorem bw_put1 {a b : Nat → Int64} {k d n : Nat} {p : Int32} {r m m' : Int64} (hk : k < 6) (hd : d < 256) (hn : n ≤ 32) (hr : ∀ i, i < 64 → bw_b r i = decide (i < n)) (hs : 64 < d % 64 + n)
    (e : a = vp_updL (fun _ => 0) (nI (k * 4 + d / 64)).toNatClampNeg (((0 : Int64) &&& m) ||| ((p.toInt64 &&& r) <<< ((nI (d % 64)).toInt64 &&& 63))))
    (e' : b = vp_updL a (nI (k * 4 + d / 64) + 1).toNatClampNeg ((a (nI (k * 4 + d / 64) + 1).toNatClampNeg &&& m') ||| ((p.toInt64 &&& r).toUInt64 >>> ((64 - nI (d % 64)).toInt64.toUInt64 &&& Int64.toUInt64 63)).toInt64)) (j : Nat) :
    bw_W b k j = (decide (d ≤ j ∧ j < d + n) && bw_i p (j - d)) := by
  have h64 : (64 : Int32) - nI (d % 64) = nI (64 - d % 64) := pk_sub (a := 64) (by omega)
  rw [nI_clamp (by omega), bw_zor] at e
  rw [nI_1, nI_clamp (by omega), h64] at e'
  have ea : a (k * 4 + d / 64 + 1) = 0 := by
    rw [e, pk_uLn (by omega)]
  rw [ea, bw_zor] at e'
  unfold bw_W
  by_cases hq : j / 64 = d / 64
  · rw [hq, e', pk_uLn (by omega), e, pk_uLs, bw_shl (d % 64) (by omega) _ (by omega), bw_val p hn hr]
    by_cases hin : d ≤ j ∧ j < d + n
    · rw [decide_eq_true (show d % 64 ≤ j % 64 by omega), decide_eq_true (show j % 64 - d % 64 < n by omega), decide_eq_true hin, show j % 64 - d % 64 = j - d by omega, Bool.true_and]
    · rw [decide_eq_false hin, Bool.false_and]
      by_cases h : d % 64 ≤ j % 64
      · rw [decide_eq_false (show ¬ j % 64 - d % 64 < n by omega), Bool.false_and, Bool.and_false]
      · rw [decide_eq_false h, Bool.false_and]
  · by_cases hq2 : j / 64 = d / 64 + 1
    · rw [hq2, ← Nat.add_assoc, e', pk_uLs, bw_shr (64 - d % 64) (by omega), bw_val p hn hr]
      by_cases hin : d ≤ j ∧ j < d + n
      · rw [decide_eq_true (show 64 - d % 64 + j % 64 < n by omega), decide_eq_true hin, show 64 - d % 64 + j % 64 = j - d by omega]
      · rw [decide_eq_false hin, decide_eq_false (show ¬ 64 - d % 64 + j % 64 < n by omega), Bool.false_and, Bool.false_and]
    · rw [e', pk_uLn (by omega), e, pk_uLn (by omega), decide_eq_false (by omega), Bool.false_and]
      exact bw_0 _
end
section
/-! the methods, a lemma a road -/
section
variable {x y z : Int32} {a1 a3 a4 a5 a6 : Nat → Int64} {a2 : Nat → Int32}
theorem bw_isbad {post : Int32 → Prop} {v : Int32} (hb : v < 0 ∨ ¬ v ≤ 5) (h : post 1) : wpX_bad post () v :=
  br_c (fun _ => h) (fun h0 => br_f (hb.resolve_left h0) h)
theorem bw_isok {post : Int32 → Prop} {k : Nat} (hk : k < 6) (h : post 0) : wpX_bad post () (nI k) :=
  br_f (nI_pos (by omega)) (br_t (nI_le (b := 5) (by omega) (by decide)) h)
theorem bw_z0 (k : Nat) : vp_updL (fun _ => 0) k 0 = fun _ => 0 := by
  funext j
  unfold vp_updL
  split <;> rfl
theorem bw_z1 (k : Nat) (r : Int64) : vp_updL (fun _ => 0) k ((0 : Int64) &&& r) = fun _ => 0 := by
  rw [Int64.zero_and]
  exact bw_z0 k
theorem bw_ix (k i : Nat) : nI k * 4 + nI i = nI (k * 4 + i) := by
  show nI k * nI 4 + nI i = _
  rw [pk_mul, nI_add]
theorem bw_clearZ {post : St2 → Prop} (H : post (x, y, z, a1, a2, a3, a4, (fun _ => 0), a6)) : wpX_clearZ post (x, y, z, a1, a2, a3, a4, (fun _ => 0), a6) :=
  pk_loop (fun n i s => wX_clearZ_2 post x y z n (nI i) a1 a2 a3 a4 s a6) (fun _ s => s = fun _ => 0) 4 0 (fun _ => 0) (by omega) rfl
    (fun n s h => pk_le 4 4 (fun _ => by subst h; exact H) (fun t => absurd t (by omega)))
    (fun n i s hi h hw => pk_le 4 i (fun t => absurd t (by omega)) (fun _ => ⟨pk_in i 4 hi, nm_e (nm_r (nI_1 i) (hw _ (by subst h; exact bw_z0 _)))⟩))
theorem bw_anyMask {post : Int64 → Prop} {p q : Int32} (h : ∀ r, post r) : wpX_lowMaskAt post () p q :=
  br_c (fun _ => br_c (fun _ => h _) (fun _ => h _)) (fun _ => h _)
theorem bw_storeZ {post : Int32 → St2 → Prop} {k : Nat} (hk : k < 6) (H : post z (x, y, z, (fun _ => 0), upd a2 k z, a3, a4, (fun _ => 0), a6)) : wpX_storeZ post (x, y, z, (fun _ => 0), a2, a3, a4, (fun _ => 0), a6) (nI k) :=
  pk_loop (fun n i s => wX_storeZ_2 post (nI k) x y z n (nI i) s a2 a3 a4 (fun _ => 0) a6) (fun _ s => s = fun _ => 0) 4 0 (fun _ => 0) (by omega) rfl
    (fun n s h => pk_le 4 4 (fun _ => ⟨pk_in k 6 hk, nm_r (by rw [nI_clamp (by omega)]) (by subst h; exact H)⟩) (fun t => absurd t (by omega)))
    (fun n i s hi h hw => pk_le 4 i (fun t => absurd t (by omega)) (fun _ => ⟨pk_in i 4 hi, bw_anyMask (fun r => ⟨pk_in (k * 4 + i) 24 (by omega) (bw_ix k i), nm_e (nm_r (nI_1 i) (hw _ (by subst h; exact bw_z1 _ _)))⟩)⟩))
theorem bw_make_bad {post : Int32 → St2 → Prop} {v p1 : Int32} (hb : v < 0 ∨ ¬ v ≤ 5) (H : post (-1) (x, y, z, a1, a2, a3, a4, a5, a6)) : wpX_make post (x, y, z, a1, a2, a3, a4, a5, a6) v p1 := by
  unfold wpX_make
  dsimp only
  exact bw_isbad hb (br_f (by decide) H)
theorem bw_make_len {post : Int32 → St2 → Prop} {k : Nat} {p1 : Int32} (hk : k < 6) (hl : p1 < 0 ∨ ¬ p1 ≤ 256) (H : post (-3) (x, y, z, a1, a2, a3, a4, a5, a6)) : wpX_make post (x, y, z, a1, a2, a3, a4, a5, a6) (nI k) p1 := by
  unfold wpX_make
  dsimp only
  exact bw_isok hk (br_t rfl (br_c (fun _ => H) (fun h0 => br_f (hl.resolve_left h0) H)))
theorem bw_make_ok {post : Int32 → St2 → Prop} {k m : Nat} (hk : k < 6) (hm : m ≤ 256) (H : post (nI m) (x, y, nI m, (fun _ => 0), upd a2 k (nI m), a3, a4, (fun _ => 0), a6)) : wpX_make post (x, y, z, (fun _ => 0), a2, a3, a4, (fun _ => 0), a6) (nI k) (nI m) := by
  unfold wpX_make
  dsimp only
  exact bw_isok hk (br_t rfl (br_f (nI_pos (by omega)) (br_t (nI_le (b := 256) hm (by decide)) (bw_clearZ (bw_storeZ hk H)))))
theorem bw_put_bad {post : Int32 → St2 → Prop} {v p1 p2 p3 : Int32} (hb : v < 0 ∨ ¬ v ≤ 5) (H : post (-1) (x, y, z, a1, a2, a3, a4, a5, a6)) : wpX_put post (x, y, z, a1, a2, a3, a4, a5, a6) v p1 p2 p3 := by
  unfold wpX_put
  dsimp only
  exact bw_isbad hb (br_f (by decide) H)
theorem bw_put_len {post : Int32 → St2 → Prop} {k : Nat} {p1 p2 p3 : Int32} (hk : k < 6) (hl : p2 < 1 ∨ ¬ p2 ≤ 32) (H : post (-3) (x, y, z, a1, a2, a3, a4, a5, a6)) : wpX_put post (x, y, z, a1, a2, a3, a4, a5, a6) (nI k) p1 p2 p3 := by
  unfold wpX_put
  dsimp only
  exact bw_isok hk (br_t rfl (br_c (fun _ => H) (fun h0 => br_f (hl.resolve_left h0) H)))
theorem bw_put_ix {post : Int32 → St2 → Prop} {k : Nat} {p1 p2 p3 : Int32} (hk : k < 6) (h1 : ¬ p2 < 1) (h2 : p2 ≤ 32) (hi : p1 < 0 ∨ ¬ p1 ≤ a2 k - p2) (H : post (-4) (x, y, z, a1, a2, a3, a4, a5, a6)) : wpX_put post (x, y, z, a1, a2, a3, a4, a5, a6) (nI k) p1 p2 p3 := by
  unfold wpX_put
  dsimp only
  exact bw_isok hk (br_t rfl (br_f h1 (br_t h2 (br_c (fun _ => H) (fun h0 => ⟨pk_in k 6 hk, br_f (by rw [nI_clamp (by omega)]; exact hi.resolve_left h0) H⟩)))))
/-- put in range, over zeros: the elements d .. d + n - 1 are p3's bits, all others false -/
theorem bw_put_ok {post : Int32 → St2 → Prop} {k m d n : Nat} {p3 : Int32} (hk : k < 6) (hm : m ≤ 256) (h2 : a2 k = nI m) (hn1 : 1 ≤ n) (hn : n ≤ 32) (hd : d + n ≤ m)
    (H : ∀ a : Nat → Int64, (∀ j, bw_W a k j = (decide (d ≤ j ∧ j < d + n) && bw_i p3 (j - d))) → post (nI n) (x, y, z, a, a2, a3, a4, a5, a6)) :
    wpX_put post (x, y, z, (fun _ => 0), a2, a3, a4, a5, a6) (nI k) (nI d) (nI n) p3 := by
  have e9 : nI k * 4 + nI d >>> ((6 : Int32) &&& 31) = nI (k * 4 + d / 64) := by
    rw [pk_shrN (by omega) ((6 : Int32) &&& 31) 6 (by decide)]
    exact bw_ix k (d / 64)
  have e10 : nI d &&& 63 = nI (d % 64) := pk_andN (by omega) 6 (by decide)
  have hle : nI d ≤ a2 (nI k).toNatClampNeg - nI n := by
    rw [nI_clamp (by omega), h2, pk_sub (by omega)]
    exact nI_le (by omega) (by omega)
  have hM := bw_mask n (by omega)
  unfold wpX_put
  dsimp only
  refine bw_isok hk (br_t rfl (br_f (nI_nlt (b := 1) hn1 (by omega)) (br_t (nI_le (b := 32) hn (by decide)) (br_f (nI_pos (by omega)) ⟨pk_in k 6 hk, br_t hle ?_⟩))))
  refine br_t (nI_lt (a := 0) (by omega) (by omega)) (br_t (nI_lt (b := 64) (by omega) (by decide)) ?_)
  refine nm_e (nm_r e9 (nm_r e10 ⟨pk_in (k * 4 + d / 64) 24 (by omega), pk_in (k * 4 + d / 64) 24 (by omega), fun a e => ?_⟩))
  refine pk_le (d % 64 + n) 64 (fun hs => H a (bw_put0 hk (by omega) hn hM hs e)) (fun hs => ?_) (nI_add _ _)
  exact ⟨pk_in (k * 4 + d / 64 + 1) 24 (by omega) (nI_1 _), pk_in (k * 4 + d / 64 + 1) 24 (by omega) (nI_1 _), fun b e' => H b (bw_put1 hk (by omega) hn hM hs e e')⟩
theorem bw_get_bad {post : Int32 → Prop} {v p1 : Int32} (hb : v < 0 ∨ ¬ v ≤ 5) (H : post 0) : wpX_get post (x, y, z, a1, a2, a3, a4, a5, a6) v p1 := by
  unfold wpX_get
  dsimp only
  exact bw_isbad hb (br_f (by decide) H)
theorem bw_get {post : Int32 → Prop} {k m : Nat} {p1 : Int32} (hk : k < 6) (hm : m ≤ 256) (h2 : a2 k = nI m) (H0 : (∀ j, j < m → ¬ p1 = nI j) → post 0)
    (H1 : ∀ j, j < m → p1 = nI j → bw_W a1 k j = true → post 1) (H2 : ∀ j, j < m → p1 = nI j → bw_W a1 k j = false → post 0) : wpX_get post (x, y, z, a1, a2, a3, a4, a5, a6) (nI k) p1 := by
  unfold wpX_get
  dsimp only
  refine bw_isok hk (br_t rfl ?_)
  refine br_c (fun h0 => H0 (fun j hj e => ?_)) (fun h0 => ⟨pk_in k 6 hk, ?_⟩)
  · rw [e] at h0
    exact nI_pos (by omega) h0
  · obtain ⟨j, hj, rfl⟩ := nI_of h0
    have ek : a2 (nI k).toNatClampNeg = nI m := by
      rw [nI_clamp (by omega), h2]
    refine pk_lt j m (fun hjm => ?_) (fun hmj => H0 (fun i hi e => ?_)) rfl ek hj (by omega)
    · have e9 : nI k * 4 + nI j >>> ((6 : Int32) &&& 31) = nI (k * 4 + j / 64) := by
        rw [pk_shrN (by omega) ((6 : Int32) &&& 31) 6 (by decide)]
        exact bw_ix k (j / 64)
      have e10 : nI j &&& 63 = nI (j % 64) := pk_andN (by omega) 6 (by decide)
      rw [e9, e10, nI_clamp (by omega)]
      refine ⟨pk_in (k * 4 + j / 64) 24 (by omega), ek_if (bw_testL _ (by omega)) (fun h => H1 j hjm rfl h) (fun h => H2 j hjm rfl (Bool.eq_false_iff.mpr h))⟩
    · have := (nI_eq hj (by omega)).mp e
      omega
theorem bw_length_bad {post : Int32 → Prop} {v : Int32} (hb : v < 0 ∨ ¬ v ≤ 5) (H : post (-1)) : wpX_length post (x, y, z, a1, a2, a3, a4, a5, a6) v := by
  unfold wpX_length
  dsimp only
  exact bw_isbad hb (br_f (by decide) H)
theorem bw_length {post : Int32 → Prop} {k : Nat} (hk : k < 6) (H : post (a2 k)) : wpX_length post (x, y, z, a1, a2, a3, a4, a5, a6) (nI k) := by
  unfold wpX_length
  dsimp only
  exact bw_isok hk (br_t rfl ⟨pk_in k 6 hk, by rw [nI_clamp (by omega)]; exact H⟩)
theorem bw_count_bad {post : Int32 → Prop} {v p1 p2 : Int32} (hb : v < 0 ∨ ¬ v ≤ 5) (H : post (-1)) : wpX_count post (x, y, z, a1, a2, a3, a4, a5, a6) v p1 p2 := by
  unfold wpX_count
  dsimp only
  exact bw_isbad hb (br_f (by decide) H)
theorem bw_ge256 {p : Int32} (h : p < 256) : ¬ 256 ≤ p := by
  rw [Int32.lt_iff_toInt_lt] at h
  rw [Int32.le_iff_toInt_le]
  omega
theorem bw_count {post : Int32 → Prop} {k : Nat} {p2 : Int32} (hk : k < 6) (H : post 0) : wpX_count post (x, y, z, a1, a2, a3, a4, a5, a6) (nI k) 256 p2 := by
  unfold wpX_count
  dsimp only
  exact bw_isok hk (br_t rfl (br_t (by decide) (br_c (fun h => br_f (bw_ge256 h) H) (fun _ => br_f (by decide) H))))
end
end
section
/-! the law, from its end to its beginning -/
section
variable {mc ms kc ks : Nat} {x y z : Int32} {a1 a3 a4 a5 a6 : Nat → Int64} {a2 : Nat → Int32}
theorem bw_214_bad {v x5 x9 w : Int32} (hb : v < 0 ∨ ¬ v ≤ 5) : wL_lawOf_214 (fun r _ => r = 1) mc ms v x5 1 x9 w w kc ks x y z a1 a2 a3 a4 a5 a6 :=
  br_t rfl (bw_length_bad hb (br_f (by decide) (br_t rfl (bw_count_bad hb (br_f (by decide) (br_t rfl rfl))))))
theorem bw_214_ok {k : Nat} {x5 x9 w : Int32} (hk : k < 6) (h2 : a2 k = x9) : wL_lawOf_214 (fun r _ => r = 1) mc ms (nI k) x5 0 x9 w w kc ks x y z a1 a2 a3 a4 a5 a6 :=
  br_t rfl (bw_length hk (br_t rfl (br_t h2 (bw_count hk (br_t rfl (br_t rfl rfl))))))
theorem bw_180_bad {v x2 x4 x5 x9 : Int32} (hb : v < 0 ∨ ¬ v ≤ 5) : wL_lawOf_180 (fun r _ => r = 1) mc ms v x2 x4 x5 1 x9 kc ks x y z a1 a2 a3 a4 a5 a6 := by
  unfold wL_lawOf_180
  exact bw_get_bad hb (br_t rfl (bw_214_bad hb))
theorem bw_180_ok {k m : Nat} {x2 x4 x5 : Int32} (hk : k < 6) (hm : m ≤ 256) (h2 : a2 k = nI m) (hW : ∀ j, j < m → x5 = nI j → bw_W a1 k j = false) : wL_lawOf_180 (fun r _ => r = 1) mc ms (nI k) x2 x4 x5 0 (nI m) kc ks x y z a1 a2 a3 a4 a5 a6 := by
  unfold wL_lawOf_180
  exact bw_get hk hm h2 (fun _ => br_t rfl (bw_214_ok hk h2))
    (fun j hj e h => absurd (h.symm.trans (hW j hj e)) (by decide))
    (fun _ _ _ _ => br_t rfl (bw_214_ok hk h2))
theorem bw_181_ok {k m j : Nat} {x2 x4 x5 : Int32} (hk : k < 6) (hm : m ≤ 256) (h2 : a2 k = nI m) (hj : j < m) (e5 : x5 = nI j) (hW : bw_W a1 k j = true ↔ ((x4 >>> ((x5 - x2) &&& 31)) &&& 1) = 1) : wL_lawOf_181 (fun r _ => r = 1) mc ms (nI k) x2 x4 x5 0 (nI m) 1 kc ks x y z a1 a2 a3 a4 a5 a6 :=
  bw_get hk hm h2 (fun h => absurd e5 (h j hj))
    (fun i hi e h => br_f (by decide) (br_t (hW.mp (by rw [(nI_eq (by omega) (by omega)).mp (e5.symm.trans e)]; exact h)) (bw_214_ok hk h2)))
    (fun i hi e h => br_f (by decide) (br_f (fun g => by
      have t := hW.mpr g
      rw [(nI_eq (by omega) (by omega)).mp (e5.symm.trans e), h] at t
      exact absurd t (by decide)) (bw_214_ok hk h2)))
theorem bw_140_bad {v x2 x3 x4 x5 x9 : Int32} (hb : v < 0 ∨ ¬ v ≤ 5) : wL_lawOf_140 (fun r _ => r = 1) mc ms v x2 x3 x4 x5 1 x9 (-1) kc ks x y z a1 a2 a3 a4 a5 a6 :=
  bw_put_bad hb (br_t rfl (br_t (by decide) (bw_180_bad hb)))
theorem bw_140_len {k m : Nat} {x2 x3 x4 x5 : Int32} (hk : k < 6) (hm : m ≤ 256) (h2 : a2 k = nI m) (hl : x3 < 1 ∨ ¬ x3 ≤ 32) : wL_lawOf_140 (fun r _ => r = 1) mc ms (nI k) x2 x3 x4 x5 0 (nI m) (-3) kc ks x y z (fun _ => 0) a2 a3 a4 a5 a6 :=
  bw_put_len hk hl (br_t rfl (br_t (by decide) (bw_180_ok hk hm h2 (fun j _ _ => bw_W0 k j))))
theorem bw_140_ix {k m : Nat} {x2 x3 x4 x5 : Int32} (hk : k < 6) (hm : m ≤ 256) (h2 : a2 k = nI m) (h3 : ¬ x3 < 1) (h3' : x3 ≤ 32) (hi : x2 < 0 ∨ ¬ x2 ≤ nI m - x3) : wL_lawOf_140 (fun r _ => r = 1) mc ms (nI k) x2 x3 x4 x5 0 (nI m) (-4) kc ks x y z (fun _ => 0) a2 a3 a4 a5 a6 :=
  bw_put_ix hk h3 h3' (by rw [h2]; exact hi) (br_t rfl (br_t (by decide) (bw_180_ok hk hm h2 (fun j _ _ => bw_W0 k j))))
theorem bw_140_ok {k m d n : Nat} {x4 x5 : Int32} (hk : k < 6) (hm : m ≤ 256) (h2 : a2 k = nI m) (hn1 : 1 ≤ n) (hn : n ≤ 32) (hd : d + n ≤ m) : wL_lawOf_140 (fun r _ => r = 1) mc ms (nI k) (nI d) (nI n) x4 x5 0 (nI m) (nI n) kc ks x y z (fun _ => 0) a2 a3 a4 a5 a6 := by
  refine bw_put_ok hk hm h2 hn1 hn hd (fun a ha => br_t rfl (br_f (nI_nle hn1 (by omega)) ?_))
  have out : (∀ j, j < m → x5 = nI j → ¬ (d ≤ j ∧ j < d + n)) → wL_lawOf_180 (fun r _ => r = 1) mc ms (nI k) (nI d) x4 x5 0 (nI m) kc ks x y z a a2 a3 a4 a5 a6 := fun h =>
    bw_180_ok hk hm h2 (fun j hj e => by rw [ha, decide_eq_false (h j hj e), Bool.false_and])
  refine br_c (fun h5 => out (fun j hj e => ?_)) (fun h5 => br_c (fun h6 => out (fun j hj e => ?_)) (fun h6 => ?_))
  · rw [e] at h5
    have := (nI_ltI (by omega) (by omega)).mp h5
    omega
  · rw [e, nI_add] at h6
    have := (nI_leI (by omega) (by omega)).mp h6
    omega
  · have h0 : ¬ x5 < 0 := fun h => by
      apply h5
      rw [Int32.lt_iff_toInt_lt] at h ⊢
      rw [nI_toInt (by omega)]
      have z0 : (0 : Int32).toInt = 0 := by decide
      omega
    obtain ⟨j, hj, rfl⟩ := nI_of h0
    rw [nI_ltI hj (by omega)] at h5
    rw [nI_add, nI_leI (by omega) hj] at h6
    refine bw_181_ok hk hm h2 (j := j) (by omega) rfl ?_
    rw [pk_sub (by omega), bw_testI x4 (by omega), ha, decide_eq_true (show d ≤ j ∧ j < d + n by omega), Bool.true_and]
theorem bw_87_bad {v x2 x3 x4 x5 x9 w : Int32} (hb : v < 0 ∨ ¬ v ≤ 5) : wL_lawOf_87 (fun r _ => r = 1) mc ms v x2 x3 x4 x5 1 x9 w w kc ks x y z a1 a2 a3 a4 a5 a6 :=
  br_t rfl (br_f (by decide) (bw_140_bad hb))
theorem bw_87_ok {k m : Nat} {x2 x3 x4 x5 w : Int32} (hk : k < 6) (hm : m ≤ 256) (h2 : a2 k = nI m) : wL_lawOf_87 (fun r _ => r = 1) mc ms (nI k) x2 x3 x4 x5 0 (nI m) w w kc ks x y z (fun _ => 0) a2 a3 a4 a5 a6 := by
  refine br_t rfl (br_t rfl (br_c (fun h => bw_140_len hk hm h2 (Or.inl h)) (fun h3 => br_c (fun h3' => ?_) (fun h => bw_140_len hk hm h2 (Or.inr h)))))
  refine br_c (fun h => bw_140_ix hk hm h2 h3 h3' (Or.inl h)) (fun h4 => br_c (fun h5 => ?_) (fun h => bw_140_ix hk hm h2 h3 h3' (Or.inr h)))
  obtain ⟨d, hd, rfl⟩ := nI_of h4
  obtain ⟨n, hn, rfl⟩ := nI_of2 (n := 32) (by decide) (fun h => h3 (Int32.lt_trans h (by decide))) h3'
  have hn1 : 1 ≤ n := by
    rcases Nat.lt_or_ge n 1 with g | g
    · exact absurd (nI_lt (b := 1) g (by decide)) h3
    · exact g
  have hdm : d + n ≤ m := by
    rw [Int32.le_iff_toInt_le, pk_sub_toInt (by omega) (by omega), nI_toInt hd] at h5
    omega
  exact bw_140_ok hk hm h2 hn1 hn hdm
theorem bw_lawOf (v x1 x2 x3 x4 x5 : Int32) : wpL_lawOf (fun r _ => r = 1) 7 57 () v x1 x2 x3 x4 x5 := by
  refine ⟨by decide, by decide, 6, 48, by decide, by decide, by decide, by decide, by decide, by decide, by decide, by decide, by decide, by decide, by decide, by decide, by decide, by decide, ?_⟩
  have bad : (v < 0 ∨ ¬ v ≤ 5) → wL_lawOf_18 (fun r _ => r = 1) 7 57 v x1 x2 x3 x4 x5 (1 + 6) (9 + 48) 0 0 0 (fun _ => 0) (fun _ => 0) (fun _ => 0) (fun _ => 0) (fun _ => 0) (fun _ => 0) := fun hb =>
    br_f (by decide) (br_t rfl (bw_make_bad hb (br_f (by decide) (bw_87_bad hb))))
  refine br_c (fun h => bad (Or.inl h)) (fun h0 => br_c (fun h5 => ?_) (fun h => bad (Or.inr h)))
  obtain ⟨k, hk, rfl⟩ := nI_of2 (n := 5) (by decide) h0 h5
  have len : (x1 < 0 ∨ ¬ x1 ≤ 256) → wL_lawOf_45 (fun r _ => r = 1) 7 57 (nI k) x1 x2 x3 x4 x5 0 (1 + 6) (9 + 48) 0 0 0 (fun _ => 0) (fun _ => 0) (fun _ => 0) (fun _ => 0) (fun _ => 0) (fun _ => 0) := fun hl =>
    br_t rfl (bw_make_len (by omega) hl (br_t rfl (br_t rfl (bw_87_ok (m := 0) (by omega) (by omega) rfl))))
  refine br_t rfl (br_c (fun h => len (Or.inl h)) (fun h1 => br_c (fun h => len (Or.inr (fun g => absurd h (Int32.not_lt.mpr g)))) (fun h => ?_)))
  obtain ⟨m, hm, rfl⟩ := nI_of2 (n := 256) (by decide) h1 (Int32.not_lt.mp h)
  exact br_f (by decide) (bw_make_ok (by omega) hm (br_t rfl (br_f (by decide) (bw_87_ok (by omega) hm pk_us))))
theorem bw_cell {post : Int32 → Prop} {L : Nat} {xs : Nat → Int32} (c : Nat) (hL : L ≤ 6) (hc : c < 6) (h : ∀ r, post r) : wpL_cellAt post L xs () (nI c) :=
  pk_le L c (fun _ => h _) (fun hl => ⟨pk_in c L hl, h _⟩)
end
theorem i_vc (xs : Nat → Int32) (L : Nat) (hL : L ≤ 6) : wpL_law (fun r => r = 1) L xs :=
  bw_cell 0 hL (by decide) (fun _ => bw_cell 1 hL (by decide) (fun _ => bw_cell 2 hL (by decide) (fun _ => bw_cell 3 hL (by decide) (fun _ => bw_cell 4 hL (by decide) (fun _ => bw_cell 5 hL (by decide) (fun _ => ⟨7, 57, by decide, by decide, bw_lawOf _ _ _ _ _ _⟩))))))
end
