section
/-- the remainder that both sides speak of -/
def mb_m (k : Int32) (b : Nat) : Nat := (k.toInt % (b : Int)).toNat
theorem mb_mI (k : Int32) {b : Nat} (h0 : 0 < b) : ((mb_m k b : Nat) : Int) = k.toInt % (b : Int) :=
  Int.toNat_of_nonneg (Int.emod_nonneg _ (by omega))
theorem mb_mlt (k : Int32) {b : Nat} (h0 : 0 < b) : mb_m k b < b := by
  have h1 := mb_mI k h0
  have h2 := Int.emod_lt_of_pos k.toInt (show (0 : Int) < (b : Int) by omega)
  omega
theorem mb_nm1 {b : Nat} (hb : b ≤ 8) : nI b ≠ -1 := by
  intro e
  have h := congrArg Int32.toInt e
  rw [nI_toInt (by omega), show (-1 : Int32).toInt = -1 by decide] at h
  omega
/-- the remainder of ints, as a whole number -/
theorem mb_rem (k : Int32) {b : Nat} (h0 : 0 < b) (hb : b ≤ 8) : (k - k / nI b * nI b).toInt = k.toInt.tmod (b : Int) := by
  rw [Int32.toInt_sub, Int32.toInt_mul, Int32.toInt_div_of_ne_right _ _ (mb_nm1 hb), nI_toInt (by omega), Int.sub_bmod_bmod, Int.mul_comm, ← Int.tmod_def]
  have h1 := Int.tmod_lt_of_pos k.toInt (show (0 : Int) < (b : Int) by omega)
  have h2 := Int.lt_tmod_of_pos k.toInt (show (0 : Int) < (b : Int) by omega)
  exact Int.bmod_eq_of_le (by omega) (by omega)
/-- the remainder of longs, as a whole number -/
theorem mb_lrem (g B : Int64) {b : Nat} (hB : B.toInt = (b : Int)) (h0 : 0 < b) (hb : b ≤ 8) : (g - g / B * B).toInt = g.toInt.tmod (b : Int) := by
  have hn : B ≠ -1 := by
    intro e
    rw [e, show (-1 : Int64).toInt = -1 by decide] at hB
    omega
  rw [Int64.toInt_sub, Int64.toInt_mul, Int64.toInt_div_of_ne_right _ _ hn, hB, Int.sub_bmod_bmod, Int.mul_comm, ← Int.tmod_def]
  have h1 := Int.tmod_lt_of_pos g.toInt (show (0 : Int) < (b : Int) by omega)
  have h2 := Int.lt_tmod_of_pos g.toInt (show (0 : Int) < (b : Int) by omega)
  exact Int.bmod_eq_of_le (by omega) (by omega)
/-- the sign of an int by its first bit -/
theorem mb_msb (x : Int32) : 0 ≤ x ↔ x.toBitVec.msb = false := by
  rw [Int32.le_iff_toInt_le, Int32.toInt_zero, BitVec.msb_eq_toInt, decide_eq_false_iff_not]
  exact ⟨fun h => Int.not_lt.mpr h, fun h => Int.not_lt.mp h⟩
theorem mb_xor (k : Int32) {b : Nat} (hb : b ≤ 8) : 0 ≤ (k ^^^ nI b) ↔ 0 ≤ k.toInt := by
  have hn : (nI b).toBitVec.msb = false := (mb_msb (nI b)).mp (nI_pos' (by omega))
  rw [mb_msb, Int32.toBitVec_xor, BitVec.msb_xor, hn, Bool.xor_false, ← mb_msb, Int32.le_iff_toInt_le, Int32.toInt_zero]
/-- where the signs agree: the remainder is the floor's -/
theorem mb_r1 (k : Int32) {b : Nat} (h0 : 0 < b) (hb : b ≤ 8) (h : 0 ≤ (k ^^^ nI b)) : k - k / nI b * nI b = nI (mb_m k b) := by
  have hm := mb_mlt k h0
  apply Int32.toInt_inj.mp
  rw [mb_rem k h0 hb, nI_toInt (by omega), mb_mI k h0]
  exact Int.tmod_eq_emod_of_nonneg ((mb_xor k hb).mp h)
/-- where they don't: zero, or one bucket less -/
theorem mb_r2 (k : Int32) {b : Nat} (h0 : 0 < b) (hb : b ≤ 8) (h : k - k / nI b * nI b = 0) : nI (mb_m k b) = 0 := by
  have hm := mb_mlt k h0
  have e := mb_rem k h0 hb
  rw [h, Int32.toInt_zero] at e
  have d : (b : Int) ∣ k.toInt := Int.dvd_of_tmod_eq_zero e.symm
  have z : k.toInt % (b : Int) = 0 := Int.emod_eq_zero_of_dvd d
  have hi := mb_mI k h0
  rw [show mb_m k b = 0 by omega]
  exact nI_0
theorem mb_r3 (k : Int32) {b : Nat} (h0 : 0 < b) (hb : b ≤ 8) (h : ¬ 0 ≤ (k ^^^ nI b)) (hz : ¬ k - k / nI b * nI b = 0) : k - k / nI b * nI b + nI b = nI (mb_m k b) := by
  have hm := mb_mlt k h0
  have hn : ¬ 0 ≤ k.toInt := fun z => h ((mb_xor k hb).mpr z)
  have hd : ¬ (b : Int) ∣ k.toInt := by
    intro d
    apply hz
    apply Int32.toInt_inj.mp
    rw [mb_rem k h0 hb, Int32.toInt_zero]
    exact Int.tmod_eq_zero_of_dvd d
  have e : k.toInt.tmod (b : Int) = k.toInt % (b : Int) - (b : Int) := by
    rw [Int.tmod_eq_emod, if_neg (fun z => z.elim hn hd), Int.natAbs_natCast]
  apply Int32.toInt_inj.mp
  rw [Int32.toInt_add, mb_rem k h0 hb, nI_toInt (by omega), nI_toInt (by omega), e, mb_mI k h0]
  have h1 := Int.emod_nonneg k.toInt (show (b : Int) ≠ 0 by omega)
  have h2 := Int.emod_lt_of_pos k.toInt (show (0 : Int) < (b : Int) by omega)
  rw [Int.sub_add_cancel]
  exact Int.bmod_eq_of_le (by omega) (by omega)
/-- the twin's test: i is the bucket -/
theorem mb_hit (k : Int32) {b i : Nat} (h0 : 0 < b) (hb : b ≤ 8) (hi : i < b) :
    (k.toInt64 - (nI i).toInt64) - (k.toInt64 - (nI i).toInt64) / (nI b).toInt64 * (nI b).toInt64 = 0 ↔ i = mb_m k b := by
  have hB : (nI b).toInt64.toInt = (b : Int) := by rw [Int32.toInt_toInt64, nI_toInt (by omega)]
  have hm := mb_mI k h0
  have hii : (i : Int) % (b : Int) = (i : Int) := Int.emod_eq_of_lt (by omega) (by omega)
  rw [← Int64.toInt_inj, mb_lrem _ _ hB h0 hb, lg_i2l_sub, nI_toInt (by omega), Int64.toInt_zero, ← Int.dvd_iff_tmod_eq_zero, Int.dvd_iff_emod_eq_zero, ← Int.emod_eq_emod_iff_emod_sub_eq_zero, hii, ← hm]
  omega
end
section
theorem mb_cell {post : Int32 → Prop} {L : Nat} {xs : Nat → Int32} (hL : L ≤ 3) (i : Nat) (hi : i < 3) (H : ∀ r, post r) : wpL_cellAt post L xs () (nI i) :=
  pk_le L i (fun _ => H 0) (fun z => ⟨pk_in i L z, H _⟩)
theorem mb_fill {f s : Nat → Int32} {i k : Nat} {x : Int32} (hk : k = i) (h : ∀ j, j < i → s j = f j) (hx : x = f i) : ∀ j, j < i + 1 → upd s k x j = f j := by
  intro j hj
  rw [hk]
  by_cases e : j = i
  · rw [e, pk_us, hx]
  · rw [pk_un e]
    exact h j (by omega)
theorem mb_counts {post : St1 → Prop} {mc ms : Nat} {a : Int32} {n : Nat} (hn : n ≤ 8) (hc : 1 ≤ mc) (hs : 8 ≤ ms)
    (H : ∀ v, (∀ j, j < n → v j = a <<< ((4 * nI j) &&& 31)) → post (v, n)) : wpL_counts post mc ms () a (nI n) := by
  refine ⟨nI_pos (by omega), nm_r (nI_clamp (by omega)) ⟨by omega, hc, by omega, ?_⟩⟩
  exact pk_loop (fun q i s => wL_counts_6 post mc ms a (nI n) 1 (0 + n) n q (nI i) s) (fun i s => ∀ j, j < i → s j = a <<< ((4 * nI j) &&& 31)) n 0 (fun _ => 0) (by omega) (fun j hj => absurd hj (by omega))
    (fun q s h => pk_le n n (fun _ => H s h) (fun z => absurd z (by omega)))
    (fun q i s hi h hw => pk_le n i (fun z => absurd z (by omega)) (fun _ => ⟨pk_in i n hi, nm_e (nm_r (nI_1 i) (hw _ (mb_fill (f := fun j => a <<< ((4 * nI j) &&& 31)) (nI_clamp (by omega)) h rfl)))⟩))
theorem mb_fmod {post : Int32 → Prop} (k : Int32) {b : Nat} (h0 : 0 < b) (hb : b ≤ 8) (H : post (nI (mb_m k b))) : wpJ9_floorMod_7cf53_48e5c post () k (nI b) :=
  ⟨nI_ne0 h0 (by omega), nm_e (br_c (fun h => ek_v (mb_r1 k h0 hb h) H)
    (fun h => br_c (fun z => ek_v (z.trans (mb_r2 k h0 hb z).symm) H) (fun z => ek_v (mb_r3 k h0 hb h z) H)))⟩
theorem mb_fdiv {post : Int32 → Prop} (k : Int32) {b : Nat} (h0 : 0 < b) (hb : b ≤ 8) (H : ∀ s, s * nI b + nI (mb_m k b) = k → post s) : wpJ9_floorDiv_7cf53_48e5c post () k (nI b) := by
  refine ⟨nI_ne0 h0 (by omega), nm_e (br_c (fun h => H _ ?_) (fun h => br_c (fun z => H _ ?_) (fun z => H _ ?_)))⟩
  · rw [← mb_r1 k h0 hb h]
    grind
  · rw [mb_r2 k h0 hb (by rw [z]; grind), z]
    grind
  · rw [← mb_r3 k h0 hb h (fun y => z (by grind))]
    grind
theorem mb_x0 {post : Int32 → St1 → Prop} {a : Nat → Int32} {n b : Nat} (k : Int32) (h0 : 0 < b) (hb : b ≤ n) (hn : n ≤ 8)
    (H : post (nI (mb_m k b)) (upd a (mb_m k b) (a (mb_m k b) + 1), n)) : wpX0_dropInBucket post (a, n) k (nI b) := by
  have hm := mb_mlt k h0
  have hc : (nI (mb_m k b)).toNatClampNeg = mb_m k b := nI_clamp (by omega)
  unfold wpX0_dropInBucket
  refine mb_fmod k h0 (by omega) ⟨pk_in (mb_m k b) n (by omega), pk_in (mb_m k b) n (by omega), nm_r (by rw [hc]) ?_⟩
  exact mb_fdiv k h0 (by omega) (fun s hs => br_t hs H)
theorem mb_x1 {post : Int32 → St1 → Prop} {a : Nat → Int32} {n b : Nat} (k : Int32) (h0 : 0 < b) (hb : b ≤ n) (hn : n ≤ 8)
    (H : post (nI (mb_m k b)) (upd a (mb_m k b) (a (mb_m k b) + 1), n)) : wpX1_dropInBucket post (a, n) k (nI b) := by
  have hm := mb_mlt k h0
  have hc : (nI (mb_m k b)).toNatClampNeg = mb_m k b := nI_clamp (by omega)
  have hbn : ¬ (nI b).toInt64 = 0 := by
    intro e
    have h := congrArg Int64.toInt e
    rw [Int32.toInt_toInt64, nI_toInt (by omega), Int64.toInt_zero] at h
    omega
  unfold wpX1_dropInBucket
  refine pk_loop (σ := Int32) (fun q i s => wX1_dropInBucket_5 post k (nI b) a n q s (nI i)) (fun i s => mb_m k b < i → s = nI (mb_m k b)) b 0 (-1) (by omega) (fun z => absurd z (by omega)) ?_ ?_
  · intro q s h
    have hs := h hm
    subst hs
    refine pk_le b b (fun _ => ⟨pk_in (mb_m k b) n (by omega), pk_in (mb_m k b) n (by omega), nm_r (by rw [hc]) H⟩) (fun z => absurd z (by omega))
  · intro q i s hi h hw
    refine pk_le b i (fun z => absurd z (by omega)) (fun _ => nm_e ⟨hbn, ?_⟩)
    refine ek_if (mb_hit k h0 (by omega) hi) (fun z => nm_r (nI_1 i) (hw _ (fun _ => by rw [← z]))) (fun z => nm_r (nI_1 i) (hw _ (fun y => h (by omega))))
theorem mb_eq {post : Int32 → Prop} {a a' : Nat → Int32} {n : Nat} (hn : n ≤ 8) (he : ∀ j, j < n → a j = a' j) (H : post 1) : wpL_eqInts post (a, n, a', n) := by
  unfold wpL_eqInts
  refine br_t rfl ?_
  exact pk_loop (σ := Unit) (fun q i _ => wL_eqInts_11 post a n a' n q (nI i)) (fun _ _ => True) n 0 () (by omega) trivial
    (fun q _ _ => pk_le n n (fun _ => H) (fun z => absurd z (by omega)))
    (fun q i _ hi _ hw => pk_le n i (fun z => absurd z (by omega)) (fun _ => ⟨pk_in i n hi, pk_in i n hi, br_t (by rw [nI_clamp (by omega)]; exact he i hi) (nm_r (nI_1 i) (hw () trivial))⟩))
theorem mb_put {v w f : Nat → Int32} {n m : Nat} (hm : m < n) (hv : ∀ j, j < n → v j = f j) (hw : ∀ j, j < n → w j = f j) : ∀ j, j < n → upd v m (v m + 1) j = upd w m (w m + 1) j := by
  intro j hj
  by_cases e : j = m
  · rw [e, pk_us, pk_us, hv m hm, hw m hm]
  · rw [pk_un e, pk_un e, hv j hj, hw j hj]
theorem mb_lawOf {post : Int32 → St0 → Prop} (k a c : Int32) (H : post 1 ()) : wpL_lawOf post 6 96 () k a c := by
  obtain ⟨u, hu, eu⟩ := pk_andE c (m := 7) 3 (by decide)
  obtain ⟨t, ht, et⟩ := pk_andE ((c.toUInt32 >>> ((3 : Int32).toUInt32 &&& Int32.toUInt32 31)).toInt32) (m := 7) 3 (by decide)
  have hu' : u < 8 := hu
  have ht' : t < 8 := ht
  have en : (1 : Int32) + (c &&& 7) = nI (1 + u) := by rw [eu]; exact nI_add 1 u
  have hr : t % (1 + u) < 1 + u := Nat.mod_lt _ (by omega)
  have eb : (1 : Int32) + (nI t - nI t / nI (1 + u) * nI (1 + u)) = nI (1 + t % (1 + u)) := by
    rw [pk_rem (by omega) (by omega) (by omega)]
    exact nI_add 1 _
  unfold wpL_lawOf
  rw [et]
  refine nm_r en ⟨nI_ne0 (by omega) (by omega), nm_r eb ?_⟩
  refine ⟨1, 8, by omega, by omega, mb_counts (by omega) (by omega) (by omega) (fun v hv => ?_)⟩
  refine ⟨1, 8, by omega, by omega, mb_counts (by omega) (by omega) (by omega) (fun w hw => ?_)⟩
  refine mb_x0 k (by omega) (by omega) (by omega) ?_
  refine mb_x1 k (by omega) (by omega) (by omega) ?_
  refine br_t rfl (mb_eq (by omega) (mb_put ?_ hv hw) (br_f (by decide) H))
  have hm := mb_mlt k (show 0 < 1 + t % (1 + u) by omega)
  omega
end
section
theorem i_vc (xs : Nat → Int32) (L : Nat) (hL : L ≤ 3) : wpL_law (fun r => r = 1) L xs := by
  unfold wpL_law
  exact mb_cell hL 0 (by omega) (fun k => mb_cell hL 1 (by omega) (fun a => mb_cell hL 2 (by omega) (fun c => ⟨6, 96, by omega, by omega, mb_lawOf k a c rfl⟩)))
end
